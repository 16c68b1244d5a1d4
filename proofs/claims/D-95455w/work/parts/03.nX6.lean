/-! SecondChancesModel -/
set_option maxRecDepth 100000
def RX6 : String := "SecondChancesModel"
def TX6 : u_T := fun k => match k with
  | 0 => ("SecondChancesModel", "typed", "[I", true)
  | 1 => ("SecondChancesModel", "texts", "[I", true)
  | 2 => ("SecondChancesModel", "deeds", "I", false)
  | 3 => ("SecondChancesModel", "kindOf", "[I", true)
  | 4 => ("SecondChancesModel", "placeOf", "[I", true)
  | 5 => ("SecondChancesModel", "rainOf", "[I", true)
  | 6 => ("SecondChancesModel", "worthOf", "[I", true)
  | 7 => ("SecondChancesModel", "whoOf", "[I", true)
  | 8 => ("SecondChancesModel", "parts", "I", false)
  | 9 => ("SecondChancesModel", "ruleMany", "[I", true)
  | 10 => ("SecondChancesModel", "ruleRain", "[I", true)
  | 11 => ("SecondChancesModel", "rulePlace", "[I", true)
  | 12 => ("SecondChancesModel", "come", "[I", true)
  | 13 => ("SecondChancesModel", "until", "[I", true)
  | 14 => ("SecondChancesModel", "price", "[I", true)
  | 15 => ("SecondChancesModel", "memory", "[I", true)
  | 16 => ("SecondChancesModel", "rains", "[I", true)
  | 17 => ("SecondChancesModel", "setting", "[I", true)
  | 18 => ("SecondChancesModel", "together", "[I", true)
  | 19 => ("SecondChancesModel", "least", "[I", true)
  | 20 => ("SecondChancesModel", "then", "[I", true)
  | 21 => ("SecondChancesModel", "fixed", "[I", true)
  | 22 => ("SecondChancesModel", "bestWorth", "I", false)
  | 23 => ("SecondChancesModel", "bestCost", "I", false)
  | 24 => ("SecondChancesModel", "planWorth", "I", false)
  | 25 => ("SecondChancesModel", "planCost", "I", false)
  | 26 => ("SecondChancesModel", "sights", "I", false)
  | 27 => ("SecondChancesModel", "seenWho", "[I", true)
  | 28 => ("SecondChancesModel", "seenPlace", "[I", true)
  | 29 => ("SecondChancesModel", "seenHour", "[I", true)
  | 30 => ("SecondChancesModel", "pairs", "I", false)
  | 31 => ("SecondChancesModel", "pairOf", "[I", true)
  | 32 => ("SecondChancesModel", "pairThen", "[I", true)
  | 33 => ("SecondChancesModel", "isThere", "[Z", true)
  | 34 => ("SecondChancesModel", "forms", "[I", true)
  | 35 => ("SecondChancesModel", "sizes", "[I", true)
  | 36 => ("SecondChancesModel", "items", "[I", true)
  | 37 => ("SecondChancesModel", "moved", "[I", true)
  | _ => ("SecondChancesModel", "finding", "I", false)
def tyX6 : Nat → FieldType := fun k => match k with
  | 0 => .array .int
  | 1 => .array .int
  | 2 => .int
  | 3 => .array .int
  | 4 => .array .int
  | 5 => .array .int
  | 6 => .array .int
  | 7 => .array .int
  | 8 => .int
  | 9 => .array .int
  | 10 => .array .int
  | 11 => .array .int
  | 12 => .array .int
  | 13 => .array .int
  | 14 => .array .int
  | 15 => .array .int
  | 16 => .array .int
  | 17 => .array .int
  | 18 => .array .int
  | 19 => .array .int
  | 20 => .array .int
  | 21 => .array .int
  | 22 => .int
  | 23 => .int
  | 24 => .int
  | 25 => .int
  | 26 => .int
  | 27 => .array .int
  | 28 => .array .int
  | 29 => .array .int
  | 30 => .int
  | 31 => .array .int
  | 32 => .array .int
  | 33 => .array .boolean
  | 34 => .array .int
  | 35 => .array .int
  | 36 => .array .int
  | 37 => .array .int
  | _ => .int
abbrev wsX60 : List Cond := u_ws RX6 TX6 39
set_option maxRecDepth 100000 in
theorem nmX6 : ∀ a, a < 39 → ∀ b, b < 39 → a ≠ b → (TX6 a).2.1 ≠ (TX6 b).2.1 := by decide +kernel
set_option maxRecDepth 100000 in
theorem tyX6_ok : ∀ k, k < 39 → parseFieldDescriptor (TX6 k).2.2.1 = some (tyX6 k) := by decide +kernel
abbrev cX6_init : ByteArray := prog_11_method_1_code
def yX6_init : MethodName := ⟨RX6, "<init>", "()V"⟩
def dkwX6_init_12 : List UInt8 := [3, 16, 9, 79, 42, 180, 0, 55, 5, 17, 3, 231, 79, 42, 180, 0, 55, 6, 16, 6, 79, 177]
abbrev dktX6_init_12 : List UInt8 := dkwX6_init_12 ++ []
def dkwX6_init_11 : List UInt8 := [180, 0, 46, 27, 4, 79, 42, 180, 0, 49, 27, 16, 16, 79, 132, 1, 1, 167, 255, 224, 42, 180, 0, 55]
abbrev dktX6_init_11 : List UInt8 := dkwX6_init_11 ++ dktX6_init_12
def dkwX6_init_10 : List UInt8 := [188, 10, 181, 0, 98, 3, 60, 27, 16, 8, 162, 0, 32, 42, 180, 0, 43, 27, 16, 8, 79, 42]
abbrev dktX6_init_10 : List UInt8 := dkwX6_init_10 ++ dktX6_init_11
def dkwX6_init_9 : List UInt8 := [188, 10, 181, 0, 89, 42, 7, 188, 10, 181, 0, 92, 42, 17, 0, 240, 188, 10, 181, 0, 95, 42, 16, 60]
abbrev dktX6_init_9 : List UInt8 := dkwX6_init_9 ++ dktX6_init_10
def dkwX6_init_8 : List UInt8 := [16, 10, 188, 10, 181, 0, 79, 42, 16, 10, 188, 10, 181, 0, 82, 42, 7, 188, 4, 181, 0, 85, 42, 7]
abbrev dktX6_init_8 : List UInt8 := dkwX6_init_8 ++ dktX6_init_9
def dkwX6_init_7 : List UInt8 := [16, 10, 188, 10, 181, 0, 70, 42, 16, 10, 188, 10, 181, 0, 73, 42, 16, 10, 188, 10, 181, 0, 76, 42]
abbrev dktX6_init_7 : List UInt8 := dkwX6_init_7 ++ dktX6_init_8
def dkwX6_init_6 : List UInt8 := [188, 10, 181, 0, 61, 42, 17, 1, 0, 188, 10, 181, 0, 64, 42, 16, 8, 188, 10, 181, 0, 67, 42]
abbrev dktX6_init_6 : List UInt8 := dkwX6_init_6 ++ dktX6_init_7
def dkwX6_init_5 : List UInt8 := [181, 0, 52, 42, 7, 188, 10, 181, 0, 55, 42, 17, 8, 0, 188, 10, 181, 0, 58, 42, 17, 1, 0]
abbrev dktX6_init_5 : List UInt8 := dkwX6_init_5 ++ dktX6_init_6
def dkwX6_init_4 : List UInt8 := [181, 0, 43, 42, 16, 8, 188, 10, 181, 0, 46, 42, 16, 8, 188, 10, 181, 0, 49, 42, 16, 8, 188, 10]
abbrev dktX6_init_4 : List UInt8 := dkwX6_init_4 ++ dktX6_init_5
def dkwX6_init_3 : List UInt8 := [181, 0, 34, 42, 7, 188, 10, 181, 0, 37, 42, 16, 8, 188, 10, 181, 0, 40, 42, 16, 8, 188, 10]
abbrev dktX6_init_3 : List UInt8 := dkwX6_init_3 ++ dktX6_init_4
def dkwX6_init_2 : List UInt8 := [188, 10, 181, 0, 25, 42, 16, 9, 188, 10, 181, 0, 28, 42, 7, 188, 10, 181, 0, 31, 42, 7, 188, 10]
abbrev dktX6_init_2 : List UInt8 := dkwX6_init_2 ++ dktX6_init_3
def dkwX6_init_1 : List UInt8 := [188, 10, 181, 0, 16, 42, 16, 9, 188, 10, 181, 0, 19, 42, 16, 9, 188, 10, 181, 0, 22, 42, 16, 9]
abbrev dktX6_init_1 : List UInt8 := dkwX6_init_1 ++ dktX6_init_2
def dkwX6_init_0 : List UInt8 := [42, 183, 0, 1, 42, 5, 188, 10, 181, 0, 7, 42, 17, 0, 160, 188, 10, 181, 0, 13, 42, 16, 9]
abbrev dktX6_init_0 : List UInt8 := dkwX6_init_0 ++ dktX6_init_1
theorem dksX6_init_0 : cX6_init.data.toList.drop 0 = dktX6_init_0 := by decide +kernel
theorem dksX6_init_1 : cX6_init.data.toList.drop 23 = dktX6_init_1 := dk_seg dksX6_init_0 23 rfl rfl
theorem dksX6_init_2 : cX6_init.data.toList.drop 47 = dktX6_init_2 := dk_seg dksX6_init_1 24 rfl rfl
theorem dksX6_init_3 : cX6_init.data.toList.drop 71 = dktX6_init_3 := dk_seg dksX6_init_2 24 rfl rfl
theorem dksX6_init_4 : cX6_init.data.toList.drop 94 = dktX6_init_4 := dk_seg dksX6_init_3 23 rfl rfl
theorem dksX6_init_5 : cX6_init.data.toList.drop 118 = dktX6_init_5 := dk_seg dksX6_init_4 24 rfl rfl
theorem dksX6_init_6 : cX6_init.data.toList.drop 141 = dktX6_init_6 := dk_seg dksX6_init_5 23 rfl rfl
theorem dksX6_init_7 : cX6_init.data.toList.drop 164 = dktX6_init_7 := dk_seg dksX6_init_6 23 rfl rfl
theorem dksX6_init_8 : cX6_init.data.toList.drop 188 = dktX6_init_8 := dk_seg dksX6_init_7 24 rfl rfl
theorem dksX6_init_9 : cX6_init.data.toList.drop 212 = dktX6_init_9 := dk_seg dksX6_init_8 24 rfl rfl
theorem dksX6_init_10 : cX6_init.data.toList.drop 236 = dktX6_init_10 := dk_seg dksX6_init_9 24 rfl rfl
theorem dksX6_init_11 : cX6_init.data.toList.drop 258 = dktX6_init_11 := dk_seg dksX6_init_10 22 rfl rfl
theorem dksX6_init_12 : cX6_init.data.toList.drop 282 = dktX6_init_12 := dk_seg dksX6_init_11 24 rfl rfl
theorem dX6_init_0 : decode cX6_init 0 = .ok (.aload_n 0, 1) := dk_42 (dk_at dksX6_init_0 0 rfl rfl)
theorem dX6_init_1 : decode cX6_init 1 = .ok (.invokespecial 1, 3) := dk_183 0 1 (dk_at dksX6_init_0 1 rfl rfl)
theorem dX6_init_4 : decode cX6_init 4 = .ok (.aload_n 0, 1) := dk_42 (dk_at dksX6_init_0 4 rfl rfl)
theorem dX6_init_5 : decode cX6_init 5 = .ok (.iconst 2, 1) := dk_5 (dk_at dksX6_init_0 5 rfl rfl)
theorem dX6_init_6 : decode cX6_init 6 = .ok (.newarray .int, 2) := dk_188_10 (dk_at dksX6_init_0 6 rfl rfl)
theorem dX6_init_8 : decode cX6_init 8 = .ok (.putfield 7, 3) := dk_181 0 7 (dk_at dksX6_init_0 8 rfl rfl)
theorem dX6_init_11 : decode cX6_init 11 = .ok (.aload_n 0, 1) := dk_42 (dk_at dksX6_init_0 11 rfl rfl)
theorem dX6_init_12 : decode cX6_init 12 = .ok (.sipush 160, 3) := dk_17 0 160 (dk_at dksX6_init_0 12 rfl rfl)
theorem dX6_init_15 : decode cX6_init 15 = .ok (.newarray .int, 2) := dk_188_10 (dk_at dksX6_init_0 15 rfl rfl)
theorem dX6_init_17 : decode cX6_init 17 = .ok (.putfield 13, 3) := dk_181 0 13 (dk_at dksX6_init_0 17 rfl rfl)
theorem dX6_init_20 : decode cX6_init 20 = .ok (.aload_n 0, 1) := dk_42 (dk_at dksX6_init_0 20 rfl rfl)
theorem dX6_init_21 : decode cX6_init 21 = .ok (.bipush 9, 2) := dk_16 9 (dk_at dksX6_init_0 21 rfl rfl)
theorem dX6_init_23 : decode cX6_init 23 = .ok (.newarray .int, 2) := dk_188_10 (dk_at dksX6_init_1 0 rfl rfl)
theorem dX6_init_25 : decode cX6_init 25 = .ok (.putfield 16, 3) := dk_181 0 16 (dk_at dksX6_init_1 2 rfl rfl)
theorem dX6_init_28 : decode cX6_init 28 = .ok (.aload_n 0, 1) := dk_42 (dk_at dksX6_init_1 5 rfl rfl)
theorem dX6_init_29 : decode cX6_init 29 = .ok (.bipush 9, 2) := dk_16 9 (dk_at dksX6_init_1 6 rfl rfl)
theorem dX6_init_31 : decode cX6_init 31 = .ok (.newarray .int, 2) := dk_188_10 (dk_at dksX6_init_1 8 rfl rfl)
theorem dX6_init_33 : decode cX6_init 33 = .ok (.putfield 19, 3) := dk_181 0 19 (dk_at dksX6_init_1 10 rfl rfl)
theorem dX6_init_36 : decode cX6_init 36 = .ok (.aload_n 0, 1) := dk_42 (dk_at dksX6_init_1 13 rfl rfl)
theorem dX6_init_37 : decode cX6_init 37 = .ok (.bipush 9, 2) := dk_16 9 (dk_at dksX6_init_1 14 rfl rfl)
theorem dX6_init_39 : decode cX6_init 39 = .ok (.newarray .int, 2) := dk_188_10 (dk_at dksX6_init_1 16 rfl rfl)
theorem dX6_init_41 : decode cX6_init 41 = .ok (.putfield 22, 3) := dk_181 0 22 (dk_at dksX6_init_1 18 rfl rfl)
theorem dX6_init_44 : decode cX6_init 44 = .ok (.aload_n 0, 1) := dk_42 (dk_at dksX6_init_1 21 rfl rfl)
theorem dX6_init_45 : decode cX6_init 45 = .ok (.bipush 9, 2) := dk_16 9 (dk_at dksX6_init_1 22 rfl rfl)
theorem dX6_init_47 : decode cX6_init 47 = .ok (.newarray .int, 2) := dk_188_10 (dk_at dksX6_init_2 0 rfl rfl)
theorem dX6_init_49 : decode cX6_init 49 = .ok (.putfield 25, 3) := dk_181 0 25 (dk_at dksX6_init_2 2 rfl rfl)
theorem dX6_init_52 : decode cX6_init 52 = .ok (.aload_n 0, 1) := dk_42 (dk_at dksX6_init_2 5 rfl rfl)
theorem dX6_init_53 : decode cX6_init 53 = .ok (.bipush 9, 2) := dk_16 9 (dk_at dksX6_init_2 6 rfl rfl)
theorem dX6_init_55 : decode cX6_init 55 = .ok (.newarray .int, 2) := dk_188_10 (dk_at dksX6_init_2 8 rfl rfl)
theorem dX6_init_57 : decode cX6_init 57 = .ok (.putfield 28, 3) := dk_181 0 28 (dk_at dksX6_init_2 10 rfl rfl)
theorem dX6_init_60 : decode cX6_init 60 = .ok (.aload_n 0, 1) := dk_42 (dk_at dksX6_init_2 13 rfl rfl)
theorem dX6_init_61 : decode cX6_init 61 = .ok (.iconst 4, 1) := dk_7 (dk_at dksX6_init_2 14 rfl rfl)
theorem dX6_init_62 : decode cX6_init 62 = .ok (.newarray .int, 2) := dk_188_10 (dk_at dksX6_init_2 15 rfl rfl)
theorem dX6_init_64 : decode cX6_init 64 = .ok (.putfield 31, 3) := dk_181 0 31 (dk_at dksX6_init_2 17 rfl rfl)
theorem dX6_init_67 : decode cX6_init 67 = .ok (.aload_n 0, 1) := dk_42 (dk_at dksX6_init_2 20 rfl rfl)
theorem dX6_init_68 : decode cX6_init 68 = .ok (.iconst 4, 1) := dk_7 (dk_at dksX6_init_2 21 rfl rfl)
theorem dX6_init_69 : decode cX6_init 69 = .ok (.newarray .int, 2) := dk_188_10 (dk_at dksX6_init_2 22 rfl rfl)
theorem dX6_init_71 : decode cX6_init 71 = .ok (.putfield 34, 3) := dk_181 0 34 (dk_at dksX6_init_3 0 rfl rfl)
theorem dX6_init_74 : decode cX6_init 74 = .ok (.aload_n 0, 1) := dk_42 (dk_at dksX6_init_3 3 rfl rfl)
theorem dX6_init_75 : decode cX6_init 75 = .ok (.iconst 4, 1) := dk_7 (dk_at dksX6_init_3 4 rfl rfl)
theorem dX6_init_76 : decode cX6_init 76 = .ok (.newarray .int, 2) := dk_188_10 (dk_at dksX6_init_3 5 rfl rfl)
theorem dX6_init_78 : decode cX6_init 78 = .ok (.putfield 37, 3) := dk_181 0 37 (dk_at dksX6_init_3 7 rfl rfl)
theorem dX6_init_81 : decode cX6_init 81 = .ok (.aload_n 0, 1) := dk_42 (dk_at dksX6_init_3 10 rfl rfl)
theorem dX6_init_82 : decode cX6_init 82 = .ok (.bipush 8, 2) := dk_16 8 (dk_at dksX6_init_3 11 rfl rfl)
theorem dX6_init_84 : decode cX6_init 84 = .ok (.newarray .int, 2) := dk_188_10 (dk_at dksX6_init_3 13 rfl rfl)
theorem dX6_init_86 : decode cX6_init 86 = .ok (.putfield 40, 3) := dk_181 0 40 (dk_at dksX6_init_3 15 rfl rfl)
theorem dX6_init_89 : decode cX6_init 89 = .ok (.aload_n 0, 1) := dk_42 (dk_at dksX6_init_3 18 rfl rfl)
theorem dX6_init_90 : decode cX6_init 90 = .ok (.bipush 8, 2) := dk_16 8 (dk_at dksX6_init_3 19 rfl rfl)
theorem dX6_init_92 : decode cX6_init 92 = .ok (.newarray .int, 2) := dk_188_10 (dk_at dksX6_init_3 21 rfl rfl)
theorem dX6_init_94 : decode cX6_init 94 = .ok (.putfield 43, 3) := dk_181 0 43 (dk_at dksX6_init_4 0 rfl rfl)
theorem dX6_init_97 : decode cX6_init 97 = .ok (.aload_n 0, 1) := dk_42 (dk_at dksX6_init_4 3 rfl rfl)
theorem dX6_init_98 : decode cX6_init 98 = .ok (.bipush 8, 2) := dk_16 8 (dk_at dksX6_init_4 4 rfl rfl)
theorem dX6_init_100 : decode cX6_init 100 = .ok (.newarray .int, 2) := dk_188_10 (dk_at dksX6_init_4 6 rfl rfl)
theorem dX6_init_102 : decode cX6_init 102 = .ok (.putfield 46, 3) := dk_181 0 46 (dk_at dksX6_init_4 8 rfl rfl)
theorem dX6_init_105 : decode cX6_init 105 = .ok (.aload_n 0, 1) := dk_42 (dk_at dksX6_init_4 11 rfl rfl)
theorem dX6_init_106 : decode cX6_init 106 = .ok (.bipush 8, 2) := dk_16 8 (dk_at dksX6_init_4 12 rfl rfl)
theorem dX6_init_108 : decode cX6_init 108 = .ok (.newarray .int, 2) := dk_188_10 (dk_at dksX6_init_4 14 rfl rfl)
theorem dX6_init_110 : decode cX6_init 110 = .ok (.putfield 49, 3) := dk_181 0 49 (dk_at dksX6_init_4 16 rfl rfl)
theorem dX6_init_113 : decode cX6_init 113 = .ok (.aload_n 0, 1) := dk_42 (dk_at dksX6_init_4 19 rfl rfl)
theorem dX6_init_114 : decode cX6_init 114 = .ok (.bipush 8, 2) := dk_16 8 (dk_at dksX6_init_4 20 rfl rfl)
theorem dX6_init_116 : decode cX6_init 116 = .ok (.newarray .int, 2) := dk_188_10 (dk_at dksX6_init_4 22 rfl rfl)
theorem dX6_init_118 : decode cX6_init 118 = .ok (.putfield 52, 3) := dk_181 0 52 (dk_at dksX6_init_5 0 rfl rfl)
theorem dX6_init_121 : decode cX6_init 121 = .ok (.aload_n 0, 1) := dk_42 (dk_at dksX6_init_5 3 rfl rfl)
theorem dX6_init_122 : decode cX6_init 122 = .ok (.iconst 4, 1) := dk_7 (dk_at dksX6_init_5 4 rfl rfl)
theorem dX6_init_123 : decode cX6_init 123 = .ok (.newarray .int, 2) := dk_188_10 (dk_at dksX6_init_5 5 rfl rfl)
theorem dX6_init_125 : decode cX6_init 125 = .ok (.putfield 55, 3) := dk_181 0 55 (dk_at dksX6_init_5 7 rfl rfl)
theorem dX6_init_128 : decode cX6_init 128 = .ok (.aload_n 0, 1) := dk_42 (dk_at dksX6_init_5 10 rfl rfl)
theorem dX6_init_129 : decode cX6_init 129 = .ok (.sipush 2048, 3) := dk_17 8 0 (dk_at dksX6_init_5 11 rfl rfl)
theorem dX6_init_132 : decode cX6_init 132 = .ok (.newarray .int, 2) := dk_188_10 (dk_at dksX6_init_5 14 rfl rfl)
theorem dX6_init_134 : decode cX6_init 134 = .ok (.putfield 58, 3) := dk_181 0 58 (dk_at dksX6_init_5 16 rfl rfl)
theorem dX6_init_137 : decode cX6_init 137 = .ok (.aload_n 0, 1) := dk_42 (dk_at dksX6_init_5 19 rfl rfl)
theorem dX6_init_138 : decode cX6_init 138 = .ok (.sipush 256, 3) := dk_17 1 0 (dk_at dksX6_init_5 20 rfl rfl)
theorem dX6_init_141 : decode cX6_init 141 = .ok (.newarray .int, 2) := dk_188_10 (dk_at dksX6_init_6 0 rfl rfl)
theorem dX6_init_143 : decode cX6_init 143 = .ok (.putfield 61, 3) := dk_181 0 61 (dk_at dksX6_init_6 2 rfl rfl)
theorem dX6_init_146 : decode cX6_init 146 = .ok (.aload_n 0, 1) := dk_42 (dk_at dksX6_init_6 5 rfl rfl)
theorem dX6_init_147 : decode cX6_init 147 = .ok (.sipush 256, 3) := dk_17 1 0 (dk_at dksX6_init_6 6 rfl rfl)
theorem dX6_init_150 : decode cX6_init 150 = .ok (.newarray .int, 2) := dk_188_10 (dk_at dksX6_init_6 9 rfl rfl)
theorem dX6_init_152 : decode cX6_init 152 = .ok (.putfield 64, 3) := dk_181 0 64 (dk_at dksX6_init_6 11 rfl rfl)
theorem dX6_init_155 : decode cX6_init 155 = .ok (.aload_n 0, 1) := dk_42 (dk_at dksX6_init_6 14 rfl rfl)
theorem dX6_init_156 : decode cX6_init 156 = .ok (.bipush 8, 2) := dk_16 8 (dk_at dksX6_init_6 15 rfl rfl)
theorem dX6_init_158 : decode cX6_init 158 = .ok (.newarray .int, 2) := dk_188_10 (dk_at dksX6_init_6 17 rfl rfl)
theorem dX6_init_160 : decode cX6_init 160 = .ok (.putfield 67, 3) := dk_181 0 67 (dk_at dksX6_init_6 19 rfl rfl)
theorem dX6_init_163 : decode cX6_init 163 = .ok (.aload_n 0, 1) := dk_42 (dk_at dksX6_init_6 22 rfl rfl)
theorem dX6_init_164 : decode cX6_init 164 = .ok (.bipush 10, 2) := dk_16 10 (dk_at dksX6_init_7 0 rfl rfl)
theorem dX6_init_166 : decode cX6_init 166 = .ok (.newarray .int, 2) := dk_188_10 (dk_at dksX6_init_7 2 rfl rfl)
theorem dX6_init_168 : decode cX6_init 168 = .ok (.putfield 70, 3) := dk_181 0 70 (dk_at dksX6_init_7 4 rfl rfl)
theorem dX6_init_171 : decode cX6_init 171 = .ok (.aload_n 0, 1) := dk_42 (dk_at dksX6_init_7 7 rfl rfl)
theorem dX6_init_172 : decode cX6_init 172 = .ok (.bipush 10, 2) := dk_16 10 (dk_at dksX6_init_7 8 rfl rfl)
theorem dX6_init_174 : decode cX6_init 174 = .ok (.newarray .int, 2) := dk_188_10 (dk_at dksX6_init_7 10 rfl rfl)
theorem dX6_init_176 : decode cX6_init 176 = .ok (.putfield 73, 3) := dk_181 0 73 (dk_at dksX6_init_7 12 rfl rfl)
theorem dX6_init_179 : decode cX6_init 179 = .ok (.aload_n 0, 1) := dk_42 (dk_at dksX6_init_7 15 rfl rfl)
theorem dX6_init_180 : decode cX6_init 180 = .ok (.bipush 10, 2) := dk_16 10 (dk_at dksX6_init_7 16 rfl rfl)
theorem dX6_init_182 : decode cX6_init 182 = .ok (.newarray .int, 2) := dk_188_10 (dk_at dksX6_init_7 18 rfl rfl)
theorem dX6_init_184 : decode cX6_init 184 = .ok (.putfield 76, 3) := dk_181 0 76 (dk_at dksX6_init_7 20 rfl rfl)
theorem dX6_init_187 : decode cX6_init 187 = .ok (.aload_n 0, 1) := dk_42 (dk_at dksX6_init_7 23 rfl rfl)
theorem dX6_init_188 : decode cX6_init 188 = .ok (.bipush 10, 2) := dk_16 10 (dk_at dksX6_init_8 0 rfl rfl)
theorem dX6_init_190 : decode cX6_init 190 = .ok (.newarray .int, 2) := dk_188_10 (dk_at dksX6_init_8 2 rfl rfl)
theorem dX6_init_192 : decode cX6_init 192 = .ok (.putfield 79, 3) := dk_181 0 79 (dk_at dksX6_init_8 4 rfl rfl)
theorem dX6_init_195 : decode cX6_init 195 = .ok (.aload_n 0, 1) := dk_42 (dk_at dksX6_init_8 7 rfl rfl)
theorem dX6_init_196 : decode cX6_init 196 = .ok (.bipush 10, 2) := dk_16 10 (dk_at dksX6_init_8 8 rfl rfl)
theorem dX6_init_198 : decode cX6_init 198 = .ok (.newarray .int, 2) := dk_188_10 (dk_at dksX6_init_8 10 rfl rfl)
theorem dX6_init_200 : decode cX6_init 200 = .ok (.putfield 82, 3) := dk_181 0 82 (dk_at dksX6_init_8 12 rfl rfl)
theorem dX6_init_203 : decode cX6_init 203 = .ok (.aload_n 0, 1) := dk_42 (dk_at dksX6_init_8 15 rfl rfl)
theorem dX6_init_204 : decode cX6_init 204 = .ok (.iconst 4, 1) := dk_7 (dk_at dksX6_init_8 16 rfl rfl)
theorem dX6_init_205 : decode cX6_init 205 = .ok (.newarray .boolean, 2) := dk_188_4 (dk_at dksX6_init_8 17 rfl rfl)
theorem dX6_init_207 : decode cX6_init 207 = .ok (.putfield 85, 3) := dk_181 0 85 (dk_at dksX6_init_8 19 rfl rfl)
theorem dX6_init_210 : decode cX6_init 210 = .ok (.aload_n 0, 1) := dk_42 (dk_at dksX6_init_8 22 rfl rfl)
theorem dX6_init_211 : decode cX6_init 211 = .ok (.iconst 4, 1) := dk_7 (dk_at dksX6_init_8 23 rfl rfl)
theorem dX6_init_212 : decode cX6_init 212 = .ok (.newarray .int, 2) := dk_188_10 (dk_at dksX6_init_9 0 rfl rfl)
theorem dX6_init_214 : decode cX6_init 214 = .ok (.putfield 89, 3) := dk_181 0 89 (dk_at dksX6_init_9 2 rfl rfl)
theorem dX6_init_217 : decode cX6_init 217 = .ok (.aload_n 0, 1) := dk_42 (dk_at dksX6_init_9 5 rfl rfl)
theorem dX6_init_218 : decode cX6_init 218 = .ok (.iconst 4, 1) := dk_7 (dk_at dksX6_init_9 6 rfl rfl)
theorem dX6_init_219 : decode cX6_init 219 = .ok (.newarray .int, 2) := dk_188_10 (dk_at dksX6_init_9 7 rfl rfl)
theorem dX6_init_221 : decode cX6_init 221 = .ok (.putfield 92, 3) := dk_181 0 92 (dk_at dksX6_init_9 9 rfl rfl)
theorem dX6_init_224 : decode cX6_init 224 = .ok (.aload_n 0, 1) := dk_42 (dk_at dksX6_init_9 12 rfl rfl)
theorem dX6_init_225 : decode cX6_init 225 = .ok (.sipush 240, 3) := dk_17 0 240 (dk_at dksX6_init_9 13 rfl rfl)
theorem dX6_init_228 : decode cX6_init 228 = .ok (.newarray .int, 2) := dk_188_10 (dk_at dksX6_init_9 16 rfl rfl)
theorem dX6_init_230 : decode cX6_init 230 = .ok (.putfield 95, 3) := dk_181 0 95 (dk_at dksX6_init_9 18 rfl rfl)
theorem dX6_init_233 : decode cX6_init 233 = .ok (.aload_n 0, 1) := dk_42 (dk_at dksX6_init_9 21 rfl rfl)
theorem dX6_init_234 : decode cX6_init 234 = .ok (.bipush 60, 2) := dk_16 60 (dk_at dksX6_init_9 22 rfl rfl)
theorem dX6_init_236 : decode cX6_init 236 = .ok (.newarray .int, 2) := dk_188_10 (dk_at dksX6_init_10 0 rfl rfl)
theorem dX6_init_238 : decode cX6_init 238 = .ok (.putfield 98, 3) := dk_181 0 98 (dk_at dksX6_init_10 2 rfl rfl)
theorem dX6_init_241 : decode cX6_init 241 = .ok (.iconst 0, 1) := dk_3 (dk_at dksX6_init_10 5 rfl rfl)
theorem dX6_init_242 : decode cX6_init 242 = .ok (.istore_n 1, 1) := dk_60 (dk_at dksX6_init_10 6 rfl rfl)
theorem dX6_init_243 : decode cX6_init 243 = .ok (.iload_n 1, 1) := dk_27 (dk_at dksX6_init_10 7 rfl rfl)
theorem dX6_init_244 : decode cX6_init 244 = .ok (.bipush 8, 2) := dk_16 8 (dk_at dksX6_init_10 8 rfl rfl)
theorem dX6_init_246 : decode cX6_init 246 = .ok (.if_icmp .ge 32, 3) := dk_162 0 32 (dk_at dksX6_init_10 10 rfl rfl)
theorem dX6_init_249 : decode cX6_init 249 = .ok (.aload_n 0, 1) := dk_42 (dk_at dksX6_init_10 13 rfl rfl)
theorem dX6_init_250 : decode cX6_init 250 = .ok (.getfield 43, 3) := dk_180 0 43 (dk_at dksX6_init_10 14 rfl rfl)
theorem dX6_init_253 : decode cX6_init 253 = .ok (.iload_n 1, 1) := dk_27 (dk_at dksX6_init_10 17 rfl rfl)
theorem dX6_init_254 : decode cX6_init 254 = .ok (.bipush 8, 2) := dk_16 8 (dk_at dksX6_init_10 18 rfl rfl)
theorem dX6_init_256 : decode cX6_init 256 = .ok (.iastore, 1) := dk_79 (dk_at dksX6_init_10 20 rfl rfl)
theorem dX6_init_257 : decode cX6_init 257 = .ok (.aload_n 0, 1) := dk_42 (dk_at dksX6_init_10 21 rfl rfl)
theorem dX6_init_258 : decode cX6_init 258 = .ok (.getfield 46, 3) := dk_180 0 46 (dk_at dksX6_init_11 0 rfl rfl)
theorem dX6_init_261 : decode cX6_init 261 = .ok (.iload_n 1, 1) := dk_27 (dk_at dksX6_init_11 3 rfl rfl)
theorem dX6_init_262 : decode cX6_init 262 = .ok (.iconst 1, 1) := dk_4 (dk_at dksX6_init_11 4 rfl rfl)
theorem dX6_init_263 : decode cX6_init 263 = .ok (.iastore, 1) := dk_79 (dk_at dksX6_init_11 5 rfl rfl)
theorem dX6_init_264 : decode cX6_init 264 = .ok (.aload_n 0, 1) := dk_42 (dk_at dksX6_init_11 6 rfl rfl)
theorem dX6_init_265 : decode cX6_init 265 = .ok (.getfield 49, 3) := dk_180 0 49 (dk_at dksX6_init_11 7 rfl rfl)
theorem dX6_init_268 : decode cX6_init 268 = .ok (.iload_n 1, 1) := dk_27 (dk_at dksX6_init_11 10 rfl rfl)
theorem dX6_init_269 : decode cX6_init 269 = .ok (.bipush 16, 2) := dk_16 16 (dk_at dksX6_init_11 11 rfl rfl)
theorem dX6_init_271 : decode cX6_init 271 = .ok (.iastore, 1) := dk_79 (dk_at dksX6_init_11 13 rfl rfl)
theorem dX6_init_272 : decode cX6_init 272 = .ok (.iinc 1 1, 3) := dk_132 1 1 (dk_at dksX6_init_11 14 rfl rfl)
theorem dX6_init_275 : decode cX6_init 275 = .ok (.goto (-32), 3) := dk_167 255 224 (dk_at dksX6_init_11 17 rfl rfl)
theorem dX6_init_278 : decode cX6_init 278 = .ok (.aload_n 0, 1) := dk_42 (dk_at dksX6_init_11 20 rfl rfl)
theorem dX6_init_279 : decode cX6_init 279 = .ok (.getfield 55, 3) := dk_180 0 55 (dk_at dksX6_init_11 21 rfl rfl)
theorem dX6_init_282 : decode cX6_init 282 = .ok (.iconst 0, 1) := dk_3 (dk_at dksX6_init_12 0 rfl rfl)
theorem dX6_init_283 : decode cX6_init 283 = .ok (.bipush 9, 2) := dk_16 9 (dk_at dksX6_init_12 1 rfl rfl)
theorem dX6_init_285 : decode cX6_init 285 = .ok (.iastore, 1) := dk_79 (dk_at dksX6_init_12 3 rfl rfl)
theorem dX6_init_286 : decode cX6_init 286 = .ok (.aload_n 0, 1) := dk_42 (dk_at dksX6_init_12 4 rfl rfl)
theorem dX6_init_287 : decode cX6_init 287 = .ok (.getfield 55, 3) := dk_180 0 55 (dk_at dksX6_init_12 5 rfl rfl)
theorem dX6_init_290 : decode cX6_init 290 = .ok (.iconst 2, 1) := dk_5 (dk_at dksX6_init_12 8 rfl rfl)
theorem dX6_init_291 : decode cX6_init 291 = .ok (.sipush 999, 3) := dk_17 3 231 (dk_at dksX6_init_12 9 rfl rfl)
theorem dX6_init_294 : decode cX6_init 294 = .ok (.iastore, 1) := dk_79 (dk_at dksX6_init_12 12 rfl rfl)
theorem dX6_init_295 : decode cX6_init 295 = .ok (.aload_n 0, 1) := dk_42 (dk_at dksX6_init_12 13 rfl rfl)
theorem dX6_init_296 : decode cX6_init 296 = .ok (.getfield 55, 3) := dk_180 0 55 (dk_at dksX6_init_12 14 rfl rfl)
theorem dX6_init_299 : decode cX6_init 299 = .ok (.iconst 3, 1) := dk_6 (dk_at dksX6_init_12 17 rfl rfl)
theorem dX6_init_300 : decode cX6_init 300 = .ok (.bipush 6, 2) := dk_16 6 (dk_at dksX6_init_12 18 rfl rfl)
theorem dX6_init_302 : decode cX6_init 302 = .ok (.iastore, 1) := dk_79 (dk_at dksX6_init_12 20 rfl rfl)
theorem dX6_init_303 : decode cX6_init 303 = .ok (.return_, 1) := dk_177 (dk_at dksX6_init_12 21 rfl rfl)
abbrev cX6_type : ByteArray := prog_11_method_9_code
def yX6_type : MethodName := ⟨RX6, "type", "(II)I"⟩
def dkwX6_type_3 : List UInt8 := [96, 79, 42, 180, 0, 7, 27, 46, 172]
abbrev dktX6_type_3 : List UInt8 := dkwX6_type_3 ++ []
def dkwX6_type_2 : List UInt8 := [180, 0, 13, 16, 80, 27, 104, 42, 180, 0, 7, 27, 46, 96, 28, 79, 42, 180, 0, 7, 27, 92, 46, 4]
abbrev dktX6_type_2 : List UInt8 := dkwX6_type_2 ++ dktX6_type_3
def dkwX6_type_1 : List UInt8 := [180, 0, 7, 27, 46, 27, 154, 0, 8, 16, 80, 167, 0, 5, 16, 40, 160, 0, 6, 16, 252, 172, 42]
abbrev dktX6_type_1 : List UInt8 := dkwX6_type_1 ++ dktX6_type_2
def dkwX6_type_0 : List UInt8 := [27, 3, 4, 184, 0, 103, 153, 0, 14, 28, 3, 17, 0, 255, 184, 0, 103, 154, 0, 6, 16, 254, 172, 42]
abbrev dktX6_type_0 : List UInt8 := dkwX6_type_0 ++ dktX6_type_1
theorem dksX6_type_0 : cX6_type.data.toList.drop 0 = dktX6_type_0 := by decide +kernel
theorem dksX6_type_1 : cX6_type.data.toList.drop 24 = dktX6_type_1 := dk_seg dksX6_type_0 24 rfl rfl
theorem dksX6_type_2 : cX6_type.data.toList.drop 47 = dktX6_type_2 := dk_seg dksX6_type_1 23 rfl rfl
theorem dksX6_type_3 : cX6_type.data.toList.drop 71 = dktX6_type_3 := dk_seg dksX6_type_2 24 rfl rfl
theorem dX6_type_0 : decode cX6_type 0 = .ok (.iload_n 1, 1) := dk_27 (dk_at dksX6_type_0 0 rfl rfl)
theorem dX6_type_1 : decode cX6_type 1 = .ok (.iconst 0, 1) := dk_3 (dk_at dksX6_type_0 1 rfl rfl)
theorem dX6_type_2 : decode cX6_type 2 = .ok (.iconst 1, 1) := dk_4 (dk_at dksX6_type_0 2 rfl rfl)
theorem dX6_type_3 : decode cX6_type 3 = .ok (.invokestatic 103, 3) := dk_184 0 103 (dk_at dksX6_type_0 3 rfl rfl)
theorem dX6_type_6 : decode cX6_type 6 = .ok (.ifCond .eq 14, 3) := dk_153 0 14 (dk_at dksX6_type_0 6 rfl rfl)
theorem dX6_type_9 : decode cX6_type 9 = .ok (.iload_n 2, 1) := dk_28 (dk_at dksX6_type_0 9 rfl rfl)
theorem dX6_type_10 : decode cX6_type 10 = .ok (.iconst 0, 1) := dk_3 (dk_at dksX6_type_0 10 rfl rfl)
theorem dX6_type_11 : decode cX6_type 11 = .ok (.sipush 255, 3) := dk_17 0 255 (dk_at dksX6_type_0 11 rfl rfl)
theorem dX6_type_14 : decode cX6_type 14 = .ok (.invokestatic 103, 3) := dk_184 0 103 (dk_at dksX6_type_0 14 rfl rfl)
theorem dX6_type_17 : decode cX6_type 17 = .ok (.ifCond .ne 6, 3) := dk_154 0 6 (dk_at dksX6_type_0 17 rfl rfl)
theorem dX6_type_20 : decode cX6_type 20 = .ok (.bipush (-2), 2) := dk_16 254 (dk_at dksX6_type_0 20 rfl rfl)
theorem dX6_type_22 : decode cX6_type 22 = .ok (.ireturn, 1) := dk_172 (dk_at dksX6_type_0 22 rfl rfl)
theorem dX6_type_23 : decode cX6_type 23 = .ok (.aload_n 0, 1) := dk_42 (dk_at dksX6_type_0 23 rfl rfl)
theorem dX6_type_24 : decode cX6_type 24 = .ok (.getfield 7, 3) := dk_180 0 7 (dk_at dksX6_type_1 0 rfl rfl)
theorem dX6_type_27 : decode cX6_type 27 = .ok (.iload_n 1, 1) := dk_27 (dk_at dksX6_type_1 3 rfl rfl)
theorem dX6_type_28 : decode cX6_type 28 = .ok (.iaload, 1) := dk_46 (dk_at dksX6_type_1 4 rfl rfl)
theorem dX6_type_29 : decode cX6_type 29 = .ok (.iload_n 1, 1) := dk_27 (dk_at dksX6_type_1 5 rfl rfl)
theorem dX6_type_30 : decode cX6_type 30 = .ok (.ifCond .ne 8, 3) := dk_154 0 8 (dk_at dksX6_type_1 6 rfl rfl)
theorem dX6_type_33 : decode cX6_type 33 = .ok (.bipush 80, 2) := dk_16 80 (dk_at dksX6_type_1 9 rfl rfl)
theorem dX6_type_35 : decode cX6_type 35 = .ok (.goto 5, 3) := dk_167 0 5 (dk_at dksX6_type_1 11 rfl rfl)
theorem dX6_type_38 : decode cX6_type 38 = .ok (.bipush 40, 2) := dk_16 40 (dk_at dksX6_type_1 14 rfl rfl)
theorem dX6_type_40 : decode cX6_type 40 = .ok (.if_icmp .ne 6, 3) := dk_160 0 6 (dk_at dksX6_type_1 16 rfl rfl)
theorem dX6_type_43 : decode cX6_type 43 = .ok (.bipush (-4), 2) := dk_16 252 (dk_at dksX6_type_1 19 rfl rfl)
theorem dX6_type_45 : decode cX6_type 45 = .ok (.ireturn, 1) := dk_172 (dk_at dksX6_type_1 21 rfl rfl)
theorem dX6_type_46 : decode cX6_type 46 = .ok (.aload_n 0, 1) := dk_42 (dk_at dksX6_type_1 22 rfl rfl)
theorem dX6_type_47 : decode cX6_type 47 = .ok (.getfield 13, 3) := dk_180 0 13 (dk_at dksX6_type_2 0 rfl rfl)
theorem dX6_type_50 : decode cX6_type 50 = .ok (.bipush 80, 2) := dk_16 80 (dk_at dksX6_type_2 3 rfl rfl)
theorem dX6_type_52 : decode cX6_type 52 = .ok (.iload_n 1, 1) := dk_27 (dk_at dksX6_type_2 5 rfl rfl)
theorem dX6_type_53 : decode cX6_type 53 = .ok (.imul, 1) := dk_104 (dk_at dksX6_type_2 6 rfl rfl)
theorem dX6_type_54 : decode cX6_type 54 = .ok (.aload_n 0, 1) := dk_42 (dk_at dksX6_type_2 7 rfl rfl)
theorem dX6_type_55 : decode cX6_type 55 = .ok (.getfield 7, 3) := dk_180 0 7 (dk_at dksX6_type_2 8 rfl rfl)
theorem dX6_type_58 : decode cX6_type 58 = .ok (.iload_n 1, 1) := dk_27 (dk_at dksX6_type_2 11 rfl rfl)
theorem dX6_type_59 : decode cX6_type 59 = .ok (.iaload, 1) := dk_46 (dk_at dksX6_type_2 12 rfl rfl)
theorem dX6_type_60 : decode cX6_type 60 = .ok (.iadd, 1) := dk_96 (dk_at dksX6_type_2 13 rfl rfl)
theorem dX6_type_61 : decode cX6_type 61 = .ok (.iload_n 2, 1) := dk_28 (dk_at dksX6_type_2 14 rfl rfl)
theorem dX6_type_62 : decode cX6_type 62 = .ok (.iastore, 1) := dk_79 (dk_at dksX6_type_2 15 rfl rfl)
theorem dX6_type_63 : decode cX6_type 63 = .ok (.aload_n 0, 1) := dk_42 (dk_at dksX6_type_2 16 rfl rfl)
theorem dX6_type_64 : decode cX6_type 64 = .ok (.getfield 7, 3) := dk_180 0 7 (dk_at dksX6_type_2 17 rfl rfl)
theorem dX6_type_67 : decode cX6_type 67 = .ok (.iload_n 1, 1) := dk_27 (dk_at dksX6_type_2 20 rfl rfl)
theorem dX6_type_68 : decode cX6_type 68 = .ok (.dup2, 1) := dk_92 (dk_at dksX6_type_2 21 rfl rfl)
theorem dX6_type_69 : decode cX6_type 69 = .ok (.iaload, 1) := dk_46 (dk_at dksX6_type_2 22 rfl rfl)
theorem dX6_type_70 : decode cX6_type 70 = .ok (.iconst 1, 1) := dk_4 (dk_at dksX6_type_2 23 rfl rfl)
theorem dX6_type_71 : decode cX6_type 71 = .ok (.iadd, 1) := dk_96 (dk_at dksX6_type_3 0 rfl rfl)
theorem dX6_type_72 : decode cX6_type 72 = .ok (.iastore, 1) := dk_79 (dk_at dksX6_type_3 1 rfl rfl)
theorem dX6_type_73 : decode cX6_type 73 = .ok (.aload_n 0, 1) := dk_42 (dk_at dksX6_type_3 2 rfl rfl)
theorem dX6_type_74 : decode cX6_type 74 = .ok (.getfield 7, 3) := dk_180 0 7 (dk_at dksX6_type_3 3 rfl rfl)
theorem dX6_type_77 : decode cX6_type 77 = .ok (.iload_n 1, 1) := dk_27 (dk_at dksX6_type_3 6 rfl rfl)
theorem dX6_type_78 : decode cX6_type 78 = .ok (.iaload, 1) := dk_46 (dk_at dksX6_type_3 7 rfl rfl)
theorem dX6_type_79 : decode cX6_type 79 = .ok (.ireturn, 1) := dk_172 (dk_at dksX6_type_3 8 rfl rfl)
abbrev cX6_in : ByteArray := prog_11_method_3_code
def yX6_in : MethodName := ⟨RX6, "in", "(III)Z"⟩
def dkwX6_in_0 : List UInt8 := [26, 27, 161, 0, 12, 26, 28, 163, 0, 7, 4, 167, 0, 4, 3, 172]
abbrev dktX6_in_0 : List UInt8 := dkwX6_in_0 ++ []
theorem dksX6_in_0 : cX6_in.data.toList.drop 0 = dktX6_in_0 := by decide +kernel
theorem dX6_in_0 : decode cX6_in 0 = .ok (.iload_n 0, 1) := dk_26 (dk_at dksX6_in_0 0 rfl rfl)
theorem dX6_in_1 : decode cX6_in 1 = .ok (.iload_n 1, 1) := dk_27 (dk_at dksX6_in_0 1 rfl rfl)
theorem dX6_in_2 : decode cX6_in 2 = .ok (.if_icmp .lt 12, 3) := dk_161 0 12 (dk_at dksX6_in_0 2 rfl rfl)
theorem dX6_in_5 : decode cX6_in 5 = .ok (.iload_n 0, 1) := dk_26 (dk_at dksX6_in_0 5 rfl rfl)
theorem dX6_in_6 : decode cX6_in 6 = .ok (.iload_n 2, 1) := dk_28 (dk_at dksX6_in_0 6 rfl rfl)
theorem dX6_in_7 : decode cX6_in 7 = .ok (.if_icmp .gt 7, 3) := dk_163 0 7 (dk_at dksX6_in_0 7 rfl rfl)
theorem dX6_in_10 : decode cX6_in 10 = .ok (.iconst 1, 1) := dk_4 (dk_at dksX6_in_0 10 rfl rfl)
theorem dX6_in_11 : decode cX6_in 11 = .ok (.goto 4, 3) := dk_167 0 4 (dk_at dksX6_in_0 11 rfl rfl)
theorem dX6_in_14 : decode cX6_in 14 = .ok (.iconst 0, 1) := dk_3 (dk_at dksX6_in_0 14 rfl rfl)
theorem dX6_in_15 : decode cX6_in 15 = .ok (.ireturn, 1) := dk_172 (dk_at dksX6_in_0 15 rfl rfl)
abbrev cX6_wipe : ByteArray := prog_11_method_10_code
def yX6_wipe : MethodName := ⟨RX6, "wipe", "(I)I"⟩
def dkwX6_wipe_1 : List UInt8 := [3, 79, 28, 172]
abbrev dktX6_wipe_1 : List UInt8 := dkwX6_wipe_1 ++ []
def dkwX6_wipe_0 : List UInt8 := [27, 3, 4, 184, 0, 103, 154, 0, 6, 16, 254, 172, 42, 180, 0, 7, 27, 46, 61, 42, 180, 0, 7, 27]
abbrev dktX6_wipe_0 : List UInt8 := dkwX6_wipe_0 ++ dktX6_wipe_1
theorem dksX6_wipe_0 : cX6_wipe.data.toList.drop 0 = dktX6_wipe_0 := by decide +kernel
theorem dksX6_wipe_1 : cX6_wipe.data.toList.drop 24 = dktX6_wipe_1 := dk_seg dksX6_wipe_0 24 rfl rfl
theorem dX6_wipe_0 : decode cX6_wipe 0 = .ok (.iload_n 1, 1) := dk_27 (dk_at dksX6_wipe_0 0 rfl rfl)
theorem dX6_wipe_1 : decode cX6_wipe 1 = .ok (.iconst 0, 1) := dk_3 (dk_at dksX6_wipe_0 1 rfl rfl)
theorem dX6_wipe_2 : decode cX6_wipe 2 = .ok (.iconst 1, 1) := dk_4 (dk_at dksX6_wipe_0 2 rfl rfl)
theorem dX6_wipe_3 : decode cX6_wipe 3 = .ok (.invokestatic 103, 3) := dk_184 0 103 (dk_at dksX6_wipe_0 3 rfl rfl)
theorem dX6_wipe_6 : decode cX6_wipe 6 = .ok (.ifCond .ne 6, 3) := dk_154 0 6 (dk_at dksX6_wipe_0 6 rfl rfl)
theorem dX6_wipe_9 : decode cX6_wipe 9 = .ok (.bipush (-2), 2) := dk_16 254 (dk_at dksX6_wipe_0 9 rfl rfl)
theorem dX6_wipe_11 : decode cX6_wipe 11 = .ok (.ireturn, 1) := dk_172 (dk_at dksX6_wipe_0 11 rfl rfl)
theorem dX6_wipe_12 : decode cX6_wipe 12 = .ok (.aload_n 0, 1) := dk_42 (dk_at dksX6_wipe_0 12 rfl rfl)
theorem dX6_wipe_13 : decode cX6_wipe 13 = .ok (.getfield 7, 3) := dk_180 0 7 (dk_at dksX6_wipe_0 13 rfl rfl)
theorem dX6_wipe_16 : decode cX6_wipe 16 = .ok (.iload_n 1, 1) := dk_27 (dk_at dksX6_wipe_0 16 rfl rfl)
theorem dX6_wipe_17 : decode cX6_wipe 17 = .ok (.iaload, 1) := dk_46 (dk_at dksX6_wipe_0 17 rfl rfl)
theorem dX6_wipe_18 : decode cX6_wipe 18 = .ok (.istore_n 2, 1) := dk_61 (dk_at dksX6_wipe_0 18 rfl rfl)
theorem dX6_wipe_19 : decode cX6_wipe 19 = .ok (.aload_n 0, 1) := dk_42 (dk_at dksX6_wipe_0 19 rfl rfl)
theorem dX6_wipe_20 : decode cX6_wipe 20 = .ok (.getfield 7, 3) := dk_180 0 7 (dk_at dksX6_wipe_0 20 rfl rfl)
theorem dX6_wipe_23 : decode cX6_wipe 23 = .ok (.iload_n 1, 1) := dk_27 (dk_at dksX6_wipe_0 23 rfl rfl)
theorem dX6_wipe_24 : decode cX6_wipe 24 = .ok (.iconst 0, 1) := dk_3 (dk_at dksX6_wipe_1 0 rfl rfl)
theorem dX6_wipe_25 : decode cX6_wipe 25 = .ok (.iastore, 1) := dk_79 (dk_at dksX6_wipe_1 1 rfl rfl)
theorem dX6_wipe_26 : decode cX6_wipe 26 = .ok (.iload_n 2, 1) := dk_28 (dk_at dksX6_wipe_1 2 rfl rfl)
theorem dX6_wipe_27 : decode cX6_wipe 27 = .ok (.ireturn, 1) := dk_172 (dk_at dksX6_wipe_1 3 rfl rfl)
abbrev cX6_fault : ByteArray := prog_11_method_18_code
def yX6_fault : MethodName := ⟨RX6, "fault", "(I)I"⟩
def dkwX6_fault_0 : List UInt8 := [27, 3, 4, 184, 0, 103, 153, 0, 11, 42, 27, 182, 0, 136, 167, 0, 5, 16, 254, 172]
abbrev dktX6_fault_0 : List UInt8 := dkwX6_fault_0 ++ []
theorem dksX6_fault_0 : cX6_fault.data.toList.drop 0 = dktX6_fault_0 := by decide +kernel
theorem dX6_fault_0 : decode cX6_fault 0 = .ok (.iload_n 1, 1) := dk_27 (dk_at dksX6_fault_0 0 rfl rfl)
theorem dX6_fault_1 : decode cX6_fault 1 = .ok (.iconst 0, 1) := dk_3 (dk_at dksX6_fault_0 1 rfl rfl)
theorem dX6_fault_2 : decode cX6_fault 2 = .ok (.iconst 1, 1) := dk_4 (dk_at dksX6_fault_0 2 rfl rfl)
theorem dX6_fault_3 : decode cX6_fault 3 = .ok (.invokestatic 103, 3) := dk_184 0 103 (dk_at dksX6_fault_0 3 rfl rfl)
theorem dX6_fault_6 : decode cX6_fault 6 = .ok (.ifCond .eq 11, 3) := dk_153 0 11 (dk_at dksX6_fault_0 6 rfl rfl)
theorem dX6_fault_9 : decode cX6_fault 9 = .ok (.aload_n 0, 1) := dk_42 (dk_at dksX6_fault_0 9 rfl rfl)
theorem dX6_fault_10 : decode cX6_fault 10 = .ok (.iload_n 1, 1) := dk_27 (dk_at dksX6_fault_0 10 rfl rfl)
theorem dX6_fault_11 : decode cX6_fault 11 = .ok (.invokevirtual 136, 3) := dk_182 0 136 (dk_at dksX6_fault_0 11 rfl rfl)
theorem dX6_fault_14 : decode cX6_fault 14 = .ok (.goto 5, 3) := dk_167 0 5 (dk_at dksX6_fault_0 14 rfl rfl)
theorem dX6_fault_17 : decode cX6_fault 17 = .ok (.bipush (-2), 2) := dk_16 254 (dk_at dksX6_fault_0 17 rfl rfl)
theorem dX6_fault_19 : decode cX6_fault 19 = .ok (.ireturn, 1) := dk_172 (dk_at dksX6_fault_0 19 rfl rfl)
abbrev cX6_faultOf : ByteArray := prog_11_method_16_code
def yX6_faultOf : MethodName := ⟨RX6, "faultOf", "(I)I"⟩
def dkwX6_faultOf_1 : List UInt8 := [172]
abbrev dktX6_faultOf_1 : List UInt8 := dkwX6_faultOf_1 ++ []
def dkwX6_faultOf_0 : List UInt8 := [27, 154, 0, 8, 42, 182, 0, 129, 172, 42, 182, 0, 133, 61, 28, 2, 159, 0, 7, 42, 182, 0, 126, 28]
abbrev dktX6_faultOf_0 : List UInt8 := dkwX6_faultOf_0 ++ dktX6_faultOf_1
theorem dksX6_faultOf_0 : cX6_faultOf.data.toList.drop 0 = dktX6_faultOf_0 := by decide +kernel
theorem dksX6_faultOf_1 : cX6_faultOf.data.toList.drop 24 = dktX6_faultOf_1 := dk_seg dksX6_faultOf_0 24 rfl rfl
theorem dX6_faultOf_0 : decode cX6_faultOf 0 = .ok (.iload_n 1, 1) := dk_27 (dk_at dksX6_faultOf_0 0 rfl rfl)
theorem dX6_faultOf_1 : decode cX6_faultOf 1 = .ok (.ifCond .ne 8, 3) := dk_154 0 8 (dk_at dksX6_faultOf_0 1 rfl rfl)
theorem dX6_faultOf_4 : decode cX6_faultOf 4 = .ok (.aload_n 0, 1) := dk_42 (dk_at dksX6_faultOf_0 4 rfl rfl)
theorem dX6_faultOf_5 : decode cX6_faultOf 5 = .ok (.invokevirtual 129, 3) := dk_182 0 129 (dk_at dksX6_faultOf_0 5 rfl rfl)
theorem dX6_faultOf_8 : decode cX6_faultOf 8 = .ok (.ireturn, 1) := dk_172 (dk_at dksX6_faultOf_0 8 rfl rfl)
theorem dX6_faultOf_9 : decode cX6_faultOf 9 = .ok (.aload_n 0, 1) := dk_42 (dk_at dksX6_faultOf_0 9 rfl rfl)
theorem dX6_faultOf_10 : decode cX6_faultOf 10 = .ok (.invokevirtual 133, 3) := dk_182 0 133 (dk_at dksX6_faultOf_0 10 rfl rfl)
theorem dX6_faultOf_13 : decode cX6_faultOf 13 = .ok (.istore_n 2, 1) := dk_61 (dk_at dksX6_faultOf_0 13 rfl rfl)
theorem dX6_faultOf_14 : decode cX6_faultOf 14 = .ok (.iload_n 2, 1) := dk_28 (dk_at dksX6_faultOf_0 14 rfl rfl)
theorem dX6_faultOf_15 : decode cX6_faultOf 15 = .ok (.iconst (-1), 1) := dk_2 (dk_at dksX6_faultOf_0 15 rfl rfl)
theorem dX6_faultOf_16 : decode cX6_faultOf 16 = .ok (.if_icmp .eq 7, 3) := dk_159 0 7 (dk_at dksX6_faultOf_0 16 rfl rfl)
theorem dX6_faultOf_19 : decode cX6_faultOf 19 = .ok (.aload_n 0, 1) := dk_42 (dk_at dksX6_faultOf_0 19 rfl rfl)
theorem dX6_faultOf_20 : decode cX6_faultOf 20 = .ok (.invokevirtual 126, 3) := dk_182 0 126 (dk_at dksX6_faultOf_0 20 rfl rfl)
theorem dX6_faultOf_23 : decode cX6_faultOf 23 = .ok (.iload_n 2, 1) := dk_28 (dk_at dksX6_faultOf_0 23 rfl rfl)
theorem dX6_faultOf_24 : decode cX6_faultOf 24 = .ok (.ireturn, 1) := dk_172 (dk_at dksX6_faultOf_1 0 rfl rfl)
abbrev cX6_readsDeeds : ByteArray := prog_11_method_13_code
def yX6_readsDeeds : MethodName := ⟨RX6, "readsDeeds", "()I"⟩
def dkwX6_readsDeeds_12 : List UInt8 := [182, 0, 111, 16, 59, 159, 0, 5, 28, 172, 132, 2, 1, 167, 254, 223, 2, 172]
abbrev dktX6_readsDeeds_12 : List UInt8 := dkwX6_readsDeeds_12 ++ []
def dkwX6_readsDeeds_11 : List UInt8 := [132, 1, 1, 28, 42, 180, 0, 7, 3, 46, 160, 0, 10, 42, 27, 181, 0, 107, 2, 172, 42, 3, 28]
abbrev dktX6_readsDeeds_11 : List UInt8 := dkwX6_readsDeeds_11 ++ dktX6_readsDeeds_12
def dkwX6_readsDeeds_10 : List UInt8 := [46, 4, 21, 4, 120, 128, 79, 132, 2, 1, 167, 255, 197, 42, 180, 0, 28, 27, 46, 154, 0, 5, 28, 172]
abbrev dktX6_readsDeeds_10 : List UInt8 := dkwX6_readsDeeds_10 ++ dktX6_readsDeeds_11
def dkwX6_readsDeeds_9 : List UInt8 := [54, 4, 42, 180, 0, 28, 27, 46, 21, 4, 184, 0, 119, 153, 0, 5, 28, 172, 42, 180, 0, 28, 27, 92]
abbrev dktX6_readsDeeds_9 : List UInt8 := dkwX6_readsDeeds_9 ++ dktX6_readsDeeds_10
def dkwX6_readsDeeds_8 : List UInt8 := [28, 182, 0, 111, 16, 65, 16, 72, 184, 0, 103, 153, 0, 49, 42, 3, 28, 182, 0, 111, 16, 65, 100]
abbrev dktX6_readsDeeds_8 : List UInt8 := dkwX6_readsDeeds_8 ++ dktX6_readsDeeds_9
def dkwX6_readsDeeds_7 : List UInt8 := [42, 3, 28, 6, 96, 182, 0, 111, 16, 48, 100, 79, 42, 180, 0, 28, 27, 3, 79, 132, 2, 4, 42, 3]
abbrev dktX6_readsDeeds_7 : List UInt8 := dkwX6_readsDeeds_7 ++ dktX6_readsDeeds_8
def dkwX6_readsDeeds_6 : List UInt8 := [100, 79, 42, 180, 0, 22, 27, 29, 16, 114, 160, 0, 7, 4, 167, 0, 4, 3, 79, 42, 180, 0, 25, 27]
abbrev dktX6_readsDeeds_6 : List UInt8 := dkwX6_readsDeeds_6 ++ dktX6_readsDeeds_7
def dkwX6_readsDeeds_5 : List UInt8 := [3, 28, 182, 0, 111, 184, 0, 115, 79, 42, 180, 0, 19, 27, 42, 3, 28, 4, 96, 182, 0, 111, 16, 48]
abbrev dktX6_readsDeeds_5 : List UInt8 := dkwX6_readsDeeds_5 ++ dktX6_readsDeeds_6
def dkwX6_readsDeeds_4 : List UInt8 := [96, 182, 0, 111, 16, 49, 16, 57, 184, 0, 103, 154, 0, 7, 28, 6, 96, 172, 42, 180, 0, 16, 27, 42]
abbrev dktX6_readsDeeds_4 : List UInt8 := dkwX6_readsDeeds_4 ++ dktX6_readsDeeds_5
def dkwX6_readsDeeds_3 : List UInt8 := [182, 0, 111, 62, 29, 16, 114, 159, 0, 13, 29, 16, 100, 159, 0, 7, 28, 5, 96, 172, 42, 3, 28, 6]
abbrev dktX6_readsDeeds_3 : List UInt8 := dkwX6_readsDeeds_3 ++ dktX6_readsDeeds_4
def dkwX6_readsDeeds_2 : List UInt8 := [96, 182, 0, 111, 16, 48, 16, 53, 184, 0, 103, 154, 0, 7, 28, 4, 96, 172, 42, 3, 28, 5, 96]
abbrev dktX6_readsDeeds_2 : List UInt8 := dkwX6_readsDeeds_2 ++ dktX6_readsDeeds_3
def dkwX6_readsDeeds_1 : List UInt8 := [16, 8, 159, 0, 16, 42, 3, 28, 182, 0, 111, 184, 0, 115, 2, 160, 0, 5, 28, 172, 42, 3, 28, 4]
abbrev dktX6_readsDeeds_1 : List UInt8 := dkwX6_readsDeeds_1 ++ dktX6_readsDeeds_2
def dkwX6_readsDeeds_0 : List UInt8 := [42, 3, 181, 0, 107, 3, 60, 3, 61, 28, 42, 180, 0, 7, 3, 46, 161, 0, 7, 28, 158, 1, 25, 27]
abbrev dktX6_readsDeeds_0 : List UInt8 := dkwX6_readsDeeds_0 ++ dktX6_readsDeeds_1
theorem dksX6_readsDeeds_0 : cX6_readsDeeds.data.toList.drop 0 = dktX6_readsDeeds_0 := by decide +kernel
theorem dksX6_readsDeeds_1 : cX6_readsDeeds.data.toList.drop 24 = dktX6_readsDeeds_1 := dk_seg dksX6_readsDeeds_0 24 rfl rfl
theorem dksX6_readsDeeds_2 : cX6_readsDeeds.data.toList.drop 48 = dktX6_readsDeeds_2 := dk_seg dksX6_readsDeeds_1 24 rfl rfl
theorem dksX6_readsDeeds_3 : cX6_readsDeeds.data.toList.drop 71 = dktX6_readsDeeds_3 := dk_seg dksX6_readsDeeds_2 23 rfl rfl
theorem dksX6_readsDeeds_4 : cX6_readsDeeds.data.toList.drop 95 = dktX6_readsDeeds_4 := dk_seg dksX6_readsDeeds_3 24 rfl rfl
theorem dksX6_readsDeeds_5 : cX6_readsDeeds.data.toList.drop 119 = dktX6_readsDeeds_5 := dk_seg dksX6_readsDeeds_4 24 rfl rfl
theorem dksX6_readsDeeds_6 : cX6_readsDeeds.data.toList.drop 143 = dktX6_readsDeeds_6 := dk_seg dksX6_readsDeeds_5 24 rfl rfl
theorem dksX6_readsDeeds_7 : cX6_readsDeeds.data.toList.drop 167 = dktX6_readsDeeds_7 := dk_seg dksX6_readsDeeds_6 24 rfl rfl
theorem dksX6_readsDeeds_8 : cX6_readsDeeds.data.toList.drop 191 = dktX6_readsDeeds_8 := dk_seg dksX6_readsDeeds_7 24 rfl rfl
theorem dksX6_readsDeeds_9 : cX6_readsDeeds.data.toList.drop 214 = dktX6_readsDeeds_9 := dk_seg dksX6_readsDeeds_8 23 rfl rfl
theorem dksX6_readsDeeds_10 : cX6_readsDeeds.data.toList.drop 238 = dktX6_readsDeeds_10 := dk_seg dksX6_readsDeeds_9 24 rfl rfl
theorem dksX6_readsDeeds_11 : cX6_readsDeeds.data.toList.drop 262 = dktX6_readsDeeds_11 := dk_seg dksX6_readsDeeds_10 24 rfl rfl
theorem dksX6_readsDeeds_12 : cX6_readsDeeds.data.toList.drop 285 = dktX6_readsDeeds_12 := dk_seg dksX6_readsDeeds_11 23 rfl rfl
theorem dX6_readsDeeds_0 : decode cX6_readsDeeds 0 = .ok (.aload_n 0, 1) := dk_42 (dk_at dksX6_readsDeeds_0 0 rfl rfl)
theorem dX6_readsDeeds_1 : decode cX6_readsDeeds 1 = .ok (.iconst 0, 1) := dk_3 (dk_at dksX6_readsDeeds_0 1 rfl rfl)
theorem dX6_readsDeeds_2 : decode cX6_readsDeeds 2 = .ok (.putfield 107, 3) := dk_181 0 107 (dk_at dksX6_readsDeeds_0 2 rfl rfl)
theorem dX6_readsDeeds_5 : decode cX6_readsDeeds 5 = .ok (.iconst 0, 1) := dk_3 (dk_at dksX6_readsDeeds_0 5 rfl rfl)
theorem dX6_readsDeeds_6 : decode cX6_readsDeeds 6 = .ok (.istore_n 1, 1) := dk_60 (dk_at dksX6_readsDeeds_0 6 rfl rfl)
theorem dX6_readsDeeds_7 : decode cX6_readsDeeds 7 = .ok (.iconst 0, 1) := dk_3 (dk_at dksX6_readsDeeds_0 7 rfl rfl)
theorem dX6_readsDeeds_8 : decode cX6_readsDeeds 8 = .ok (.istore_n 2, 1) := dk_61 (dk_at dksX6_readsDeeds_0 8 rfl rfl)
theorem dX6_readsDeeds_9 : decode cX6_readsDeeds 9 = .ok (.iload_n 2, 1) := dk_28 (dk_at dksX6_readsDeeds_0 9 rfl rfl)
theorem dX6_readsDeeds_10 : decode cX6_readsDeeds 10 = .ok (.aload_n 0, 1) := dk_42 (dk_at dksX6_readsDeeds_0 10 rfl rfl)
theorem dX6_readsDeeds_11 : decode cX6_readsDeeds 11 = .ok (.getfield 7, 3) := dk_180 0 7 (dk_at dksX6_readsDeeds_0 11 rfl rfl)
theorem dX6_readsDeeds_14 : decode cX6_readsDeeds 14 = .ok (.iconst 0, 1) := dk_3 (dk_at dksX6_readsDeeds_0 14 rfl rfl)
theorem dX6_readsDeeds_15 : decode cX6_readsDeeds 15 = .ok (.iaload, 1) := dk_46 (dk_at dksX6_readsDeeds_0 15 rfl rfl)
theorem dX6_readsDeeds_16 : decode cX6_readsDeeds 16 = .ok (.if_icmp .lt 7, 3) := dk_161 0 7 (dk_at dksX6_readsDeeds_0 16 rfl rfl)
theorem dX6_readsDeeds_19 : decode cX6_readsDeeds 19 = .ok (.iload_n 2, 1) := dk_28 (dk_at dksX6_readsDeeds_0 19 rfl rfl)
theorem dX6_readsDeeds_20 : decode cX6_readsDeeds 20 = .ok (.ifCond .le 281, 3) := dk_158 1 25 (dk_at dksX6_readsDeeds_0 20 rfl rfl)
theorem dX6_readsDeeds_23 : decode cX6_readsDeeds 23 = .ok (.iload_n 1, 1) := dk_27 (dk_at dksX6_readsDeeds_0 23 rfl rfl)
theorem dX6_readsDeeds_24 : decode cX6_readsDeeds 24 = .ok (.bipush 8, 2) := dk_16 8 (dk_at dksX6_readsDeeds_1 0 rfl rfl)
theorem dX6_readsDeeds_26 : decode cX6_readsDeeds 26 = .ok (.if_icmp .eq 16, 3) := dk_159 0 16 (dk_at dksX6_readsDeeds_1 2 rfl rfl)
theorem dX6_readsDeeds_29 : decode cX6_readsDeeds 29 = .ok (.aload_n 0, 1) := dk_42 (dk_at dksX6_readsDeeds_1 5 rfl rfl)
theorem dX6_readsDeeds_30 : decode cX6_readsDeeds 30 = .ok (.iconst 0, 1) := dk_3 (dk_at dksX6_readsDeeds_1 6 rfl rfl)
theorem dX6_readsDeeds_31 : decode cX6_readsDeeds 31 = .ok (.iload_n 2, 1) := dk_28 (dk_at dksX6_readsDeeds_1 7 rfl rfl)
theorem dX6_readsDeeds_32 : decode cX6_readsDeeds 32 = .ok (.invokevirtual 111, 3) := dk_182 0 111 (dk_at dksX6_readsDeeds_1 8 rfl rfl)
theorem dX6_readsDeeds_35 : decode cX6_readsDeeds 35 = .ok (.invokestatic 115, 3) := dk_184 0 115 (dk_at dksX6_readsDeeds_1 11 rfl rfl)
theorem dX6_readsDeeds_38 : decode cX6_readsDeeds 38 = .ok (.iconst (-1), 1) := dk_2 (dk_at dksX6_readsDeeds_1 14 rfl rfl)
theorem dX6_readsDeeds_39 : decode cX6_readsDeeds 39 = .ok (.if_icmp .ne 5, 3) := dk_160 0 5 (dk_at dksX6_readsDeeds_1 15 rfl rfl)
theorem dX6_readsDeeds_42 : decode cX6_readsDeeds 42 = .ok (.iload_n 2, 1) := dk_28 (dk_at dksX6_readsDeeds_1 18 rfl rfl)
theorem dX6_readsDeeds_43 : decode cX6_readsDeeds 43 = .ok (.ireturn, 1) := dk_172 (dk_at dksX6_readsDeeds_1 19 rfl rfl)
theorem dX6_readsDeeds_44 : decode cX6_readsDeeds 44 = .ok (.aload_n 0, 1) := dk_42 (dk_at dksX6_readsDeeds_1 20 rfl rfl)
theorem dX6_readsDeeds_45 : decode cX6_readsDeeds 45 = .ok (.iconst 0, 1) := dk_3 (dk_at dksX6_readsDeeds_1 21 rfl rfl)
theorem dX6_readsDeeds_46 : decode cX6_readsDeeds 46 = .ok (.iload_n 2, 1) := dk_28 (dk_at dksX6_readsDeeds_1 22 rfl rfl)
theorem dX6_readsDeeds_47 : decode cX6_readsDeeds 47 = .ok (.iconst 1, 1) := dk_4 (dk_at dksX6_readsDeeds_1 23 rfl rfl)
theorem dX6_readsDeeds_48 : decode cX6_readsDeeds 48 = .ok (.iadd, 1) := dk_96 (dk_at dksX6_readsDeeds_2 0 rfl rfl)
theorem dX6_readsDeeds_49 : decode cX6_readsDeeds 49 = .ok (.invokevirtual 111, 3) := dk_182 0 111 (dk_at dksX6_readsDeeds_2 1 rfl rfl)
theorem dX6_readsDeeds_52 : decode cX6_readsDeeds 52 = .ok (.bipush 48, 2) := dk_16 48 (dk_at dksX6_readsDeeds_2 4 rfl rfl)
theorem dX6_readsDeeds_54 : decode cX6_readsDeeds 54 = .ok (.bipush 53, 2) := dk_16 53 (dk_at dksX6_readsDeeds_2 6 rfl rfl)
theorem dX6_readsDeeds_56 : decode cX6_readsDeeds 56 = .ok (.invokestatic 103, 3) := dk_184 0 103 (dk_at dksX6_readsDeeds_2 8 rfl rfl)
theorem dX6_readsDeeds_59 : decode cX6_readsDeeds 59 = .ok (.ifCond .ne 7, 3) := dk_154 0 7 (dk_at dksX6_readsDeeds_2 11 rfl rfl)
theorem dX6_readsDeeds_62 : decode cX6_readsDeeds 62 = .ok (.iload_n 2, 1) := dk_28 (dk_at dksX6_readsDeeds_2 14 rfl rfl)
theorem dX6_readsDeeds_63 : decode cX6_readsDeeds 63 = .ok (.iconst 1, 1) := dk_4 (dk_at dksX6_readsDeeds_2 15 rfl rfl)
theorem dX6_readsDeeds_64 : decode cX6_readsDeeds 64 = .ok (.iadd, 1) := dk_96 (dk_at dksX6_readsDeeds_2 16 rfl rfl)
theorem dX6_readsDeeds_65 : decode cX6_readsDeeds 65 = .ok (.ireturn, 1) := dk_172 (dk_at dksX6_readsDeeds_2 17 rfl rfl)
theorem dX6_readsDeeds_66 : decode cX6_readsDeeds 66 = .ok (.aload_n 0, 1) := dk_42 (dk_at dksX6_readsDeeds_2 18 rfl rfl)
theorem dX6_readsDeeds_67 : decode cX6_readsDeeds 67 = .ok (.iconst 0, 1) := dk_3 (dk_at dksX6_readsDeeds_2 19 rfl rfl)
theorem dX6_readsDeeds_68 : decode cX6_readsDeeds 68 = .ok (.iload_n 2, 1) := dk_28 (dk_at dksX6_readsDeeds_2 20 rfl rfl)
theorem dX6_readsDeeds_69 : decode cX6_readsDeeds 69 = .ok (.iconst 2, 1) := dk_5 (dk_at dksX6_readsDeeds_2 21 rfl rfl)
theorem dX6_readsDeeds_70 : decode cX6_readsDeeds 70 = .ok (.iadd, 1) := dk_96 (dk_at dksX6_readsDeeds_2 22 rfl rfl)
theorem dX6_readsDeeds_71 : decode cX6_readsDeeds 71 = .ok (.invokevirtual 111, 3) := dk_182 0 111 (dk_at dksX6_readsDeeds_3 0 rfl rfl)
theorem dX6_readsDeeds_74 : decode cX6_readsDeeds 74 = .ok (.istore_n 3, 1) := dk_62 (dk_at dksX6_readsDeeds_3 3 rfl rfl)
theorem dX6_readsDeeds_75 : decode cX6_readsDeeds 75 = .ok (.iload_n 3, 1) := dk_29 (dk_at dksX6_readsDeeds_3 4 rfl rfl)
theorem dX6_readsDeeds_76 : decode cX6_readsDeeds 76 = .ok (.bipush 114, 2) := dk_16 114 (dk_at dksX6_readsDeeds_3 5 rfl rfl)
theorem dX6_readsDeeds_78 : decode cX6_readsDeeds 78 = .ok (.if_icmp .eq 13, 3) := dk_159 0 13 (dk_at dksX6_readsDeeds_3 7 rfl rfl)
theorem dX6_readsDeeds_81 : decode cX6_readsDeeds 81 = .ok (.iload_n 3, 1) := dk_29 (dk_at dksX6_readsDeeds_3 10 rfl rfl)
theorem dX6_readsDeeds_82 : decode cX6_readsDeeds 82 = .ok (.bipush 100, 2) := dk_16 100 (dk_at dksX6_readsDeeds_3 11 rfl rfl)
theorem dX6_readsDeeds_84 : decode cX6_readsDeeds 84 = .ok (.if_icmp .eq 7, 3) := dk_159 0 7 (dk_at dksX6_readsDeeds_3 13 rfl rfl)
theorem dX6_readsDeeds_87 : decode cX6_readsDeeds 87 = .ok (.iload_n 2, 1) := dk_28 (dk_at dksX6_readsDeeds_3 16 rfl rfl)
theorem dX6_readsDeeds_88 : decode cX6_readsDeeds 88 = .ok (.iconst 2, 1) := dk_5 (dk_at dksX6_readsDeeds_3 17 rfl rfl)
theorem dX6_readsDeeds_89 : decode cX6_readsDeeds 89 = .ok (.iadd, 1) := dk_96 (dk_at dksX6_readsDeeds_3 18 rfl rfl)
theorem dX6_readsDeeds_90 : decode cX6_readsDeeds 90 = .ok (.ireturn, 1) := dk_172 (dk_at dksX6_readsDeeds_3 19 rfl rfl)
theorem dX6_readsDeeds_91 : decode cX6_readsDeeds 91 = .ok (.aload_n 0, 1) := dk_42 (dk_at dksX6_readsDeeds_3 20 rfl rfl)
theorem dX6_readsDeeds_92 : decode cX6_readsDeeds 92 = .ok (.iconst 0, 1) := dk_3 (dk_at dksX6_readsDeeds_3 21 rfl rfl)
theorem dX6_readsDeeds_93 : decode cX6_readsDeeds 93 = .ok (.iload_n 2, 1) := dk_28 (dk_at dksX6_readsDeeds_3 22 rfl rfl)
theorem dX6_readsDeeds_94 : decode cX6_readsDeeds 94 = .ok (.iconst 3, 1) := dk_6 (dk_at dksX6_readsDeeds_3 23 rfl rfl)
theorem dX6_readsDeeds_95 : decode cX6_readsDeeds 95 = .ok (.iadd, 1) := dk_96 (dk_at dksX6_readsDeeds_4 0 rfl rfl)
theorem dX6_readsDeeds_96 : decode cX6_readsDeeds 96 = .ok (.invokevirtual 111, 3) := dk_182 0 111 (dk_at dksX6_readsDeeds_4 1 rfl rfl)
theorem dX6_readsDeeds_99 : decode cX6_readsDeeds 99 = .ok (.bipush 49, 2) := dk_16 49 (dk_at dksX6_readsDeeds_4 4 rfl rfl)
theorem dX6_readsDeeds_101 : decode cX6_readsDeeds 101 = .ok (.bipush 57, 2) := dk_16 57 (dk_at dksX6_readsDeeds_4 6 rfl rfl)
theorem dX6_readsDeeds_103 : decode cX6_readsDeeds 103 = .ok (.invokestatic 103, 3) := dk_184 0 103 (dk_at dksX6_readsDeeds_4 8 rfl rfl)
theorem dX6_readsDeeds_106 : decode cX6_readsDeeds 106 = .ok (.ifCond .ne 7, 3) := dk_154 0 7 (dk_at dksX6_readsDeeds_4 11 rfl rfl)
theorem dX6_readsDeeds_109 : decode cX6_readsDeeds 109 = .ok (.iload_n 2, 1) := dk_28 (dk_at dksX6_readsDeeds_4 14 rfl rfl)
theorem dX6_readsDeeds_110 : decode cX6_readsDeeds 110 = .ok (.iconst 3, 1) := dk_6 (dk_at dksX6_readsDeeds_4 15 rfl rfl)
theorem dX6_readsDeeds_111 : decode cX6_readsDeeds 111 = .ok (.iadd, 1) := dk_96 (dk_at dksX6_readsDeeds_4 16 rfl rfl)
theorem dX6_readsDeeds_112 : decode cX6_readsDeeds 112 = .ok (.ireturn, 1) := dk_172 (dk_at dksX6_readsDeeds_4 17 rfl rfl)
theorem dX6_readsDeeds_113 : decode cX6_readsDeeds 113 = .ok (.aload_n 0, 1) := dk_42 (dk_at dksX6_readsDeeds_4 18 rfl rfl)
theorem dX6_readsDeeds_114 : decode cX6_readsDeeds 114 = .ok (.getfield 16, 3) := dk_180 0 16 (dk_at dksX6_readsDeeds_4 19 rfl rfl)
theorem dX6_readsDeeds_117 : decode cX6_readsDeeds 117 = .ok (.iload_n 1, 1) := dk_27 (dk_at dksX6_readsDeeds_4 22 rfl rfl)
theorem dX6_readsDeeds_118 : decode cX6_readsDeeds 118 = .ok (.aload_n 0, 1) := dk_42 (dk_at dksX6_readsDeeds_4 23 rfl rfl)
theorem dX6_readsDeeds_119 : decode cX6_readsDeeds 119 = .ok (.iconst 0, 1) := dk_3 (dk_at dksX6_readsDeeds_5 0 rfl rfl)
theorem dX6_readsDeeds_120 : decode cX6_readsDeeds 120 = .ok (.iload_n 2, 1) := dk_28 (dk_at dksX6_readsDeeds_5 1 rfl rfl)
theorem dX6_readsDeeds_121 : decode cX6_readsDeeds 121 = .ok (.invokevirtual 111, 3) := dk_182 0 111 (dk_at dksX6_readsDeeds_5 2 rfl rfl)
theorem dX6_readsDeeds_124 : decode cX6_readsDeeds 124 = .ok (.invokestatic 115, 3) := dk_184 0 115 (dk_at dksX6_readsDeeds_5 5 rfl rfl)
theorem dX6_readsDeeds_127 : decode cX6_readsDeeds 127 = .ok (.iastore, 1) := dk_79 (dk_at dksX6_readsDeeds_5 8 rfl rfl)
theorem dX6_readsDeeds_128 : decode cX6_readsDeeds 128 = .ok (.aload_n 0, 1) := dk_42 (dk_at dksX6_readsDeeds_5 9 rfl rfl)
theorem dX6_readsDeeds_129 : decode cX6_readsDeeds 129 = .ok (.getfield 19, 3) := dk_180 0 19 (dk_at dksX6_readsDeeds_5 10 rfl rfl)
theorem dX6_readsDeeds_132 : decode cX6_readsDeeds 132 = .ok (.iload_n 1, 1) := dk_27 (dk_at dksX6_readsDeeds_5 13 rfl rfl)
theorem dX6_readsDeeds_133 : decode cX6_readsDeeds 133 = .ok (.aload_n 0, 1) := dk_42 (dk_at dksX6_readsDeeds_5 14 rfl rfl)
theorem dX6_readsDeeds_134 : decode cX6_readsDeeds 134 = .ok (.iconst 0, 1) := dk_3 (dk_at dksX6_readsDeeds_5 15 rfl rfl)
theorem dX6_readsDeeds_135 : decode cX6_readsDeeds 135 = .ok (.iload_n 2, 1) := dk_28 (dk_at dksX6_readsDeeds_5 16 rfl rfl)
theorem dX6_readsDeeds_136 : decode cX6_readsDeeds 136 = .ok (.iconst 1, 1) := dk_4 (dk_at dksX6_readsDeeds_5 17 rfl rfl)
theorem dX6_readsDeeds_137 : decode cX6_readsDeeds 137 = .ok (.iadd, 1) := dk_96 (dk_at dksX6_readsDeeds_5 18 rfl rfl)
theorem dX6_readsDeeds_138 : decode cX6_readsDeeds 138 = .ok (.invokevirtual 111, 3) := dk_182 0 111 (dk_at dksX6_readsDeeds_5 19 rfl rfl)
theorem dX6_readsDeeds_141 : decode cX6_readsDeeds 141 = .ok (.bipush 48, 2) := dk_16 48 (dk_at dksX6_readsDeeds_5 22 rfl rfl)
theorem dX6_readsDeeds_143 : decode cX6_readsDeeds 143 = .ok (.isub, 1) := dk_100 (dk_at dksX6_readsDeeds_6 0 rfl rfl)
theorem dX6_readsDeeds_144 : decode cX6_readsDeeds 144 = .ok (.iastore, 1) := dk_79 (dk_at dksX6_readsDeeds_6 1 rfl rfl)
theorem dX6_readsDeeds_145 : decode cX6_readsDeeds 145 = .ok (.aload_n 0, 1) := dk_42 (dk_at dksX6_readsDeeds_6 2 rfl rfl)
theorem dX6_readsDeeds_146 : decode cX6_readsDeeds 146 = .ok (.getfield 22, 3) := dk_180 0 22 (dk_at dksX6_readsDeeds_6 3 rfl rfl)
theorem dX6_readsDeeds_149 : decode cX6_readsDeeds 149 = .ok (.iload_n 1, 1) := dk_27 (dk_at dksX6_readsDeeds_6 6 rfl rfl)
theorem dX6_readsDeeds_150 : decode cX6_readsDeeds 150 = .ok (.iload_n 3, 1) := dk_29 (dk_at dksX6_readsDeeds_6 7 rfl rfl)
theorem dX6_readsDeeds_151 : decode cX6_readsDeeds 151 = .ok (.bipush 114, 2) := dk_16 114 (dk_at dksX6_readsDeeds_6 8 rfl rfl)
theorem dX6_readsDeeds_153 : decode cX6_readsDeeds 153 = .ok (.if_icmp .ne 7, 3) := dk_160 0 7 (dk_at dksX6_readsDeeds_6 10 rfl rfl)
theorem dX6_readsDeeds_156 : decode cX6_readsDeeds 156 = .ok (.iconst 1, 1) := dk_4 (dk_at dksX6_readsDeeds_6 13 rfl rfl)
theorem dX6_readsDeeds_157 : decode cX6_readsDeeds 157 = .ok (.goto 4, 3) := dk_167 0 4 (dk_at dksX6_readsDeeds_6 14 rfl rfl)
theorem dX6_readsDeeds_160 : decode cX6_readsDeeds 160 = .ok (.iconst 0, 1) := dk_3 (dk_at dksX6_readsDeeds_6 17 rfl rfl)
theorem dX6_readsDeeds_161 : decode cX6_readsDeeds 161 = .ok (.iastore, 1) := dk_79 (dk_at dksX6_readsDeeds_6 18 rfl rfl)
theorem dX6_readsDeeds_162 : decode cX6_readsDeeds 162 = .ok (.aload_n 0, 1) := dk_42 (dk_at dksX6_readsDeeds_6 19 rfl rfl)
theorem dX6_readsDeeds_163 : decode cX6_readsDeeds 163 = .ok (.getfield 25, 3) := dk_180 0 25 (dk_at dksX6_readsDeeds_6 20 rfl rfl)
theorem dX6_readsDeeds_166 : decode cX6_readsDeeds 166 = .ok (.iload_n 1, 1) := dk_27 (dk_at dksX6_readsDeeds_6 23 rfl rfl)
theorem dX6_readsDeeds_167 : decode cX6_readsDeeds 167 = .ok (.aload_n 0, 1) := dk_42 (dk_at dksX6_readsDeeds_7 0 rfl rfl)
theorem dX6_readsDeeds_168 : decode cX6_readsDeeds 168 = .ok (.iconst 0, 1) := dk_3 (dk_at dksX6_readsDeeds_7 1 rfl rfl)
theorem dX6_readsDeeds_169 : decode cX6_readsDeeds 169 = .ok (.iload_n 2, 1) := dk_28 (dk_at dksX6_readsDeeds_7 2 rfl rfl)
theorem dX6_readsDeeds_170 : decode cX6_readsDeeds 170 = .ok (.iconst 3, 1) := dk_6 (dk_at dksX6_readsDeeds_7 3 rfl rfl)
theorem dX6_readsDeeds_171 : decode cX6_readsDeeds 171 = .ok (.iadd, 1) := dk_96 (dk_at dksX6_readsDeeds_7 4 rfl rfl)
theorem dX6_readsDeeds_172 : decode cX6_readsDeeds 172 = .ok (.invokevirtual 111, 3) := dk_182 0 111 (dk_at dksX6_readsDeeds_7 5 rfl rfl)
theorem dX6_readsDeeds_175 : decode cX6_readsDeeds 175 = .ok (.bipush 48, 2) := dk_16 48 (dk_at dksX6_readsDeeds_7 8 rfl rfl)
theorem dX6_readsDeeds_177 : decode cX6_readsDeeds 177 = .ok (.isub, 1) := dk_100 (dk_at dksX6_readsDeeds_7 10 rfl rfl)
theorem dX6_readsDeeds_178 : decode cX6_readsDeeds 178 = .ok (.iastore, 1) := dk_79 (dk_at dksX6_readsDeeds_7 11 rfl rfl)
theorem dX6_readsDeeds_179 : decode cX6_readsDeeds 179 = .ok (.aload_n 0, 1) := dk_42 (dk_at dksX6_readsDeeds_7 12 rfl rfl)
theorem dX6_readsDeeds_180 : decode cX6_readsDeeds 180 = .ok (.getfield 28, 3) := dk_180 0 28 (dk_at dksX6_readsDeeds_7 13 rfl rfl)
theorem dX6_readsDeeds_183 : decode cX6_readsDeeds 183 = .ok (.iload_n 1, 1) := dk_27 (dk_at dksX6_readsDeeds_7 16 rfl rfl)
theorem dX6_readsDeeds_184 : decode cX6_readsDeeds 184 = .ok (.iconst 0, 1) := dk_3 (dk_at dksX6_readsDeeds_7 17 rfl rfl)
theorem dX6_readsDeeds_185 : decode cX6_readsDeeds 185 = .ok (.iastore, 1) := dk_79 (dk_at dksX6_readsDeeds_7 18 rfl rfl)
theorem dX6_readsDeeds_186 : decode cX6_readsDeeds 186 = .ok (.iinc 2 4, 3) := dk_132 2 4 (dk_at dksX6_readsDeeds_7 19 rfl rfl)
theorem dX6_readsDeeds_189 : decode cX6_readsDeeds 189 = .ok (.aload_n 0, 1) := dk_42 (dk_at dksX6_readsDeeds_7 22 rfl rfl)
theorem dX6_readsDeeds_190 : decode cX6_readsDeeds 190 = .ok (.iconst 0, 1) := dk_3 (dk_at dksX6_readsDeeds_7 23 rfl rfl)
theorem dX6_readsDeeds_191 : decode cX6_readsDeeds 191 = .ok (.iload_n 2, 1) := dk_28 (dk_at dksX6_readsDeeds_8 0 rfl rfl)
theorem dX6_readsDeeds_192 : decode cX6_readsDeeds 192 = .ok (.invokevirtual 111, 3) := dk_182 0 111 (dk_at dksX6_readsDeeds_8 1 rfl rfl)
theorem dX6_readsDeeds_195 : decode cX6_readsDeeds 195 = .ok (.bipush 65, 2) := dk_16 65 (dk_at dksX6_readsDeeds_8 4 rfl rfl)
theorem dX6_readsDeeds_197 : decode cX6_readsDeeds 197 = .ok (.bipush 72, 2) := dk_16 72 (dk_at dksX6_readsDeeds_8 6 rfl rfl)
theorem dX6_readsDeeds_199 : decode cX6_readsDeeds 199 = .ok (.invokestatic 103, 3) := dk_184 0 103 (dk_at dksX6_readsDeeds_8 8 rfl rfl)
theorem dX6_readsDeeds_202 : decode cX6_readsDeeds 202 = .ok (.ifCond .eq 49, 3) := dk_153 0 49 (dk_at dksX6_readsDeeds_8 11 rfl rfl)
theorem dX6_readsDeeds_205 : decode cX6_readsDeeds 205 = .ok (.aload_n 0, 1) := dk_42 (dk_at dksX6_readsDeeds_8 14 rfl rfl)
theorem dX6_readsDeeds_206 : decode cX6_readsDeeds 206 = .ok (.iconst 0, 1) := dk_3 (dk_at dksX6_readsDeeds_8 15 rfl rfl)
theorem dX6_readsDeeds_207 : decode cX6_readsDeeds 207 = .ok (.iload_n 2, 1) := dk_28 (dk_at dksX6_readsDeeds_8 16 rfl rfl)
theorem dX6_readsDeeds_208 : decode cX6_readsDeeds 208 = .ok (.invokevirtual 111, 3) := dk_182 0 111 (dk_at dksX6_readsDeeds_8 17 rfl rfl)
theorem dX6_readsDeeds_211 : decode cX6_readsDeeds 211 = .ok (.bipush 65, 2) := dk_16 65 (dk_at dksX6_readsDeeds_8 20 rfl rfl)
theorem dX6_readsDeeds_213 : decode cX6_readsDeeds 213 = .ok (.isub, 1) := dk_100 (dk_at dksX6_readsDeeds_8 22 rfl rfl)
theorem dX6_readsDeeds_214 : decode cX6_readsDeeds 214 = .ok (.istore 4, 2) := dk_54 4 (dk_at dksX6_readsDeeds_9 0 rfl rfl)
theorem dX6_readsDeeds_216 : decode cX6_readsDeeds 216 = .ok (.aload_n 0, 1) := dk_42 (dk_at dksX6_readsDeeds_9 2 rfl rfl)
theorem dX6_readsDeeds_217 : decode cX6_readsDeeds 217 = .ok (.getfield 28, 3) := dk_180 0 28 (dk_at dksX6_readsDeeds_9 3 rfl rfl)
theorem dX6_readsDeeds_220 : decode cX6_readsDeeds 220 = .ok (.iload_n 1, 1) := dk_27 (dk_at dksX6_readsDeeds_9 6 rfl rfl)
theorem dX6_readsDeeds_221 : decode cX6_readsDeeds 221 = .ok (.iaload, 1) := dk_46 (dk_at dksX6_readsDeeds_9 7 rfl rfl)
theorem dX6_readsDeeds_222 : decode cX6_readsDeeds 222 = .ok (.iload 4, 2) := dk_21 4 (dk_at dksX6_readsDeeds_9 8 rfl rfl)
theorem dX6_readsDeeds_224 : decode cX6_readsDeeds 224 = .ok (.invokestatic 119, 3) := dk_184 0 119 (dk_at dksX6_readsDeeds_9 10 rfl rfl)
theorem dX6_readsDeeds_227 : decode cX6_readsDeeds 227 = .ok (.ifCond .eq 5, 3) := dk_153 0 5 (dk_at dksX6_readsDeeds_9 13 rfl rfl)
theorem dX6_readsDeeds_230 : decode cX6_readsDeeds 230 = .ok (.iload_n 2, 1) := dk_28 (dk_at dksX6_readsDeeds_9 16 rfl rfl)
theorem dX6_readsDeeds_231 : decode cX6_readsDeeds 231 = .ok (.ireturn, 1) := dk_172 (dk_at dksX6_readsDeeds_9 17 rfl rfl)
theorem dX6_readsDeeds_232 : decode cX6_readsDeeds 232 = .ok (.aload_n 0, 1) := dk_42 (dk_at dksX6_readsDeeds_9 18 rfl rfl)
theorem dX6_readsDeeds_233 : decode cX6_readsDeeds 233 = .ok (.getfield 28, 3) := dk_180 0 28 (dk_at dksX6_readsDeeds_9 19 rfl rfl)
theorem dX6_readsDeeds_236 : decode cX6_readsDeeds 236 = .ok (.iload_n 1, 1) := dk_27 (dk_at dksX6_readsDeeds_9 22 rfl rfl)
theorem dX6_readsDeeds_237 : decode cX6_readsDeeds 237 = .ok (.dup2, 1) := dk_92 (dk_at dksX6_readsDeeds_9 23 rfl rfl)
theorem dX6_readsDeeds_238 : decode cX6_readsDeeds 238 = .ok (.iaload, 1) := dk_46 (dk_at dksX6_readsDeeds_10 0 rfl rfl)
theorem dX6_readsDeeds_239 : decode cX6_readsDeeds 239 = .ok (.iconst 1, 1) := dk_4 (dk_at dksX6_readsDeeds_10 1 rfl rfl)
theorem dX6_readsDeeds_240 : decode cX6_readsDeeds 240 = .ok (.iload 4, 2) := dk_21 4 (dk_at dksX6_readsDeeds_10 2 rfl rfl)
theorem dX6_readsDeeds_242 : decode cX6_readsDeeds 242 = .ok (.ishl, 1) := dk_120 (dk_at dksX6_readsDeeds_10 4 rfl rfl)
theorem dX6_readsDeeds_243 : decode cX6_readsDeeds 243 = .ok (.ior, 1) := dk_128 (dk_at dksX6_readsDeeds_10 5 rfl rfl)
theorem dX6_readsDeeds_244 : decode cX6_readsDeeds 244 = .ok (.iastore, 1) := dk_79 (dk_at dksX6_readsDeeds_10 6 rfl rfl)
theorem dX6_readsDeeds_245 : decode cX6_readsDeeds 245 = .ok (.iinc 2 1, 3) := dk_132 2 1 (dk_at dksX6_readsDeeds_10 7 rfl rfl)
theorem dX6_readsDeeds_248 : decode cX6_readsDeeds 248 = .ok (.goto (-59), 3) := dk_167 255 197 (dk_at dksX6_readsDeeds_10 10 rfl rfl)
theorem dX6_readsDeeds_251 : decode cX6_readsDeeds 251 = .ok (.aload_n 0, 1) := dk_42 (dk_at dksX6_readsDeeds_10 13 rfl rfl)
theorem dX6_readsDeeds_252 : decode cX6_readsDeeds 252 = .ok (.getfield 28, 3) := dk_180 0 28 (dk_at dksX6_readsDeeds_10 14 rfl rfl)
theorem dX6_readsDeeds_255 : decode cX6_readsDeeds 255 = .ok (.iload_n 1, 1) := dk_27 (dk_at dksX6_readsDeeds_10 17 rfl rfl)
theorem dX6_readsDeeds_256 : decode cX6_readsDeeds 256 = .ok (.iaload, 1) := dk_46 (dk_at dksX6_readsDeeds_10 18 rfl rfl)
theorem dX6_readsDeeds_257 : decode cX6_readsDeeds 257 = .ok (.ifCond .ne 5, 3) := dk_154 0 5 (dk_at dksX6_readsDeeds_10 19 rfl rfl)
theorem dX6_readsDeeds_260 : decode cX6_readsDeeds 260 = .ok (.iload_n 2, 1) := dk_28 (dk_at dksX6_readsDeeds_10 22 rfl rfl)
theorem dX6_readsDeeds_261 : decode cX6_readsDeeds 261 = .ok (.ireturn, 1) := dk_172 (dk_at dksX6_readsDeeds_10 23 rfl rfl)
theorem dX6_readsDeeds_262 : decode cX6_readsDeeds 262 = .ok (.iinc 1 1, 3) := dk_132 1 1 (dk_at dksX6_readsDeeds_11 0 rfl rfl)
theorem dX6_readsDeeds_265 : decode cX6_readsDeeds 265 = .ok (.iload_n 2, 1) := dk_28 (dk_at dksX6_readsDeeds_11 3 rfl rfl)
theorem dX6_readsDeeds_266 : decode cX6_readsDeeds 266 = .ok (.aload_n 0, 1) := dk_42 (dk_at dksX6_readsDeeds_11 4 rfl rfl)
theorem dX6_readsDeeds_267 : decode cX6_readsDeeds 267 = .ok (.getfield 7, 3) := dk_180 0 7 (dk_at dksX6_readsDeeds_11 5 rfl rfl)
theorem dX6_readsDeeds_270 : decode cX6_readsDeeds 270 = .ok (.iconst 0, 1) := dk_3 (dk_at dksX6_readsDeeds_11 8 rfl rfl)
theorem dX6_readsDeeds_271 : decode cX6_readsDeeds 271 = .ok (.iaload, 1) := dk_46 (dk_at dksX6_readsDeeds_11 9 rfl rfl)
theorem dX6_readsDeeds_272 : decode cX6_readsDeeds 272 = .ok (.if_icmp .ne 10, 3) := dk_160 0 10 (dk_at dksX6_readsDeeds_11 10 rfl rfl)
theorem dX6_readsDeeds_275 : decode cX6_readsDeeds 275 = .ok (.aload_n 0, 1) := dk_42 (dk_at dksX6_readsDeeds_11 13 rfl rfl)
theorem dX6_readsDeeds_276 : decode cX6_readsDeeds 276 = .ok (.iload_n 1, 1) := dk_27 (dk_at dksX6_readsDeeds_11 14 rfl rfl)
theorem dX6_readsDeeds_277 : decode cX6_readsDeeds 277 = .ok (.putfield 107, 3) := dk_181 0 107 (dk_at dksX6_readsDeeds_11 15 rfl rfl)
theorem dX6_readsDeeds_280 : decode cX6_readsDeeds 280 = .ok (.iconst (-1), 1) := dk_2 (dk_at dksX6_readsDeeds_11 18 rfl rfl)
theorem dX6_readsDeeds_281 : decode cX6_readsDeeds 281 = .ok (.ireturn, 1) := dk_172 (dk_at dksX6_readsDeeds_11 19 rfl rfl)
theorem dX6_readsDeeds_282 : decode cX6_readsDeeds 282 = .ok (.aload_n 0, 1) := dk_42 (dk_at dksX6_readsDeeds_11 20 rfl rfl)
theorem dX6_readsDeeds_283 : decode cX6_readsDeeds 283 = .ok (.iconst 0, 1) := dk_3 (dk_at dksX6_readsDeeds_11 21 rfl rfl)
theorem dX6_readsDeeds_284 : decode cX6_readsDeeds 284 = .ok (.iload_n 2, 1) := dk_28 (dk_at dksX6_readsDeeds_11 22 rfl rfl)
theorem dX6_readsDeeds_285 : decode cX6_readsDeeds 285 = .ok (.invokevirtual 111, 3) := dk_182 0 111 (dk_at dksX6_readsDeeds_12 0 rfl rfl)
theorem dX6_readsDeeds_288 : decode cX6_readsDeeds 288 = .ok (.bipush 59, 2) := dk_16 59 (dk_at dksX6_readsDeeds_12 3 rfl rfl)
theorem dX6_readsDeeds_290 : decode cX6_readsDeeds 290 = .ok (.if_icmp .eq 5, 3) := dk_159 0 5 (dk_at dksX6_readsDeeds_12 5 rfl rfl)
theorem dX6_readsDeeds_293 : decode cX6_readsDeeds 293 = .ok (.iload_n 2, 1) := dk_28 (dk_at dksX6_readsDeeds_12 8 rfl rfl)
theorem dX6_readsDeeds_294 : decode cX6_readsDeeds 294 = .ok (.ireturn, 1) := dk_172 (dk_at dksX6_readsDeeds_12 9 rfl rfl)
theorem dX6_readsDeeds_295 : decode cX6_readsDeeds 295 = .ok (.iinc 2 1, 3) := dk_132 2 1 (dk_at dksX6_readsDeeds_12 10 rfl rfl)
theorem dX6_readsDeeds_298 : decode cX6_readsDeeds 298 = .ok (.goto (-289), 3) := dk_167 254 223 (dk_at dksX6_readsDeeds_12 13 rfl rfl)
theorem dX6_readsDeeds_301 : decode cX6_readsDeeds 301 = .ok (.iconst (-1), 1) := dk_2 (dk_at dksX6_readsDeeds_12 16 rfl rfl)
theorem dX6_readsDeeds_302 : decode cX6_readsDeeds 302 = .ok (.ireturn, 1) := dk_172 (dk_at dksX6_readsDeeds_12 17 rfl rfl)
abbrev cX6_byteAt : ByteArray := prog_11_method_11_code
def yX6_byteAt : MethodName := ⟨RX6, "byteAt", "(II)I"⟩
def dkwX6_byteAt_1 : List UInt8 := [2, 172]
abbrev dktX6_byteAt_1 : List UInt8 := dkwX6_byteAt_1 ++ []
def dkwX6_byteAt_0 : List UInt8 := [28, 42, 180, 0, 7, 27, 46, 162, 0, 17, 42, 180, 0, 13, 16, 80, 27, 104, 28, 96, 46, 167, 0, 4]
abbrev dktX6_byteAt_0 : List UInt8 := dkwX6_byteAt_0 ++ dktX6_byteAt_1
theorem dksX6_byteAt_0 : cX6_byteAt.data.toList.drop 0 = dktX6_byteAt_0 := by decide +kernel
theorem dksX6_byteAt_1 : cX6_byteAt.data.toList.drop 24 = dktX6_byteAt_1 := dk_seg dksX6_byteAt_0 24 rfl rfl
theorem dX6_byteAt_0 : decode cX6_byteAt 0 = .ok (.iload_n 2, 1) := dk_28 (dk_at dksX6_byteAt_0 0 rfl rfl)
theorem dX6_byteAt_1 : decode cX6_byteAt 1 = .ok (.aload_n 0, 1) := dk_42 (dk_at dksX6_byteAt_0 1 rfl rfl)
theorem dX6_byteAt_2 : decode cX6_byteAt 2 = .ok (.getfield 7, 3) := dk_180 0 7 (dk_at dksX6_byteAt_0 2 rfl rfl)
theorem dX6_byteAt_5 : decode cX6_byteAt 5 = .ok (.iload_n 1, 1) := dk_27 (dk_at dksX6_byteAt_0 5 rfl rfl)
theorem dX6_byteAt_6 : decode cX6_byteAt 6 = .ok (.iaload, 1) := dk_46 (dk_at dksX6_byteAt_0 6 rfl rfl)
theorem dX6_byteAt_7 : decode cX6_byteAt 7 = .ok (.if_icmp .ge 17, 3) := dk_162 0 17 (dk_at dksX6_byteAt_0 7 rfl rfl)
theorem dX6_byteAt_10 : decode cX6_byteAt 10 = .ok (.aload_n 0, 1) := dk_42 (dk_at dksX6_byteAt_0 10 rfl rfl)
theorem dX6_byteAt_11 : decode cX6_byteAt 11 = .ok (.getfield 13, 3) := dk_180 0 13 (dk_at dksX6_byteAt_0 11 rfl rfl)
theorem dX6_byteAt_14 : decode cX6_byteAt 14 = .ok (.bipush 80, 2) := dk_16 80 (dk_at dksX6_byteAt_0 14 rfl rfl)
theorem dX6_byteAt_16 : decode cX6_byteAt 16 = .ok (.iload_n 1, 1) := dk_27 (dk_at dksX6_byteAt_0 16 rfl rfl)
theorem dX6_byteAt_17 : decode cX6_byteAt 17 = .ok (.imul, 1) := dk_104 (dk_at dksX6_byteAt_0 17 rfl rfl)
theorem dX6_byteAt_18 : decode cX6_byteAt 18 = .ok (.iload_n 2, 1) := dk_28 (dk_at dksX6_byteAt_0 18 rfl rfl)
theorem dX6_byteAt_19 : decode cX6_byteAt 19 = .ok (.iadd, 1) := dk_96 (dk_at dksX6_byteAt_0 19 rfl rfl)
theorem dX6_byteAt_20 : decode cX6_byteAt 20 = .ok (.iaload, 1) := dk_46 (dk_at dksX6_byteAt_0 20 rfl rfl)
theorem dX6_byteAt_21 : decode cX6_byteAt 21 = .ok (.goto 4, 3) := dk_167 0 4 (dk_at dksX6_byteAt_0 21 rfl rfl)
theorem dX6_byteAt_24 : decode cX6_byteAt 24 = .ok (.iconst (-1), 1) := dk_2 (dk_at dksX6_byteAt_1 0 rfl rfl)
theorem dX6_byteAt_25 : decode cX6_byteAt 25 = .ok (.ireturn, 1) := dk_172 (dk_at dksX6_byteAt_1 1 rfl rfl)
abbrev cX6_kindBy : ByteArray := prog_11_method_12_code
def yX6_kindBy : MethodName := ⟨RX6, "kindBy", "(I)I"⟩
def dkwX6_kindBy_1 : List UInt8 := [160, 0, 7, 5, 167, 0, 14, 26, 16, 115, 160, 0, 7, 6, 167, 0, 4, 2, 172]
abbrev dktX6_kindBy_1 : List UInt8 := dkwX6_kindBy_1 ++ []
def dkwX6_kindBy_0 : List UInt8 := [26, 16, 112, 160, 0, 7, 3, 167, 0, 34, 26, 16, 114, 160, 0, 7, 4, 167, 0, 24, 26, 16, 116]
abbrev dktX6_kindBy_0 : List UInt8 := dkwX6_kindBy_0 ++ dktX6_kindBy_1
theorem dksX6_kindBy_0 : cX6_kindBy.data.toList.drop 0 = dktX6_kindBy_0 := by decide +kernel
theorem dksX6_kindBy_1 : cX6_kindBy.data.toList.drop 23 = dktX6_kindBy_1 := dk_seg dksX6_kindBy_0 23 rfl rfl
theorem dX6_kindBy_0 : decode cX6_kindBy 0 = .ok (.iload_n 0, 1) := dk_26 (dk_at dksX6_kindBy_0 0 rfl rfl)
theorem dX6_kindBy_1 : decode cX6_kindBy 1 = .ok (.bipush 112, 2) := dk_16 112 (dk_at dksX6_kindBy_0 1 rfl rfl)
theorem dX6_kindBy_3 : decode cX6_kindBy 3 = .ok (.if_icmp .ne 7, 3) := dk_160 0 7 (dk_at dksX6_kindBy_0 3 rfl rfl)
theorem dX6_kindBy_6 : decode cX6_kindBy 6 = .ok (.iconst 0, 1) := dk_3 (dk_at dksX6_kindBy_0 6 rfl rfl)
theorem dX6_kindBy_7 : decode cX6_kindBy 7 = .ok (.goto 34, 3) := dk_167 0 34 (dk_at dksX6_kindBy_0 7 rfl rfl)
theorem dX6_kindBy_10 : decode cX6_kindBy 10 = .ok (.iload_n 0, 1) := dk_26 (dk_at dksX6_kindBy_0 10 rfl rfl)
theorem dX6_kindBy_11 : decode cX6_kindBy 11 = .ok (.bipush 114, 2) := dk_16 114 (dk_at dksX6_kindBy_0 11 rfl rfl)
theorem dX6_kindBy_13 : decode cX6_kindBy 13 = .ok (.if_icmp .ne 7, 3) := dk_160 0 7 (dk_at dksX6_kindBy_0 13 rfl rfl)
theorem dX6_kindBy_16 : decode cX6_kindBy 16 = .ok (.iconst 1, 1) := dk_4 (dk_at dksX6_kindBy_0 16 rfl rfl)
theorem dX6_kindBy_17 : decode cX6_kindBy 17 = .ok (.goto 24, 3) := dk_167 0 24 (dk_at dksX6_kindBy_0 17 rfl rfl)
theorem dX6_kindBy_20 : decode cX6_kindBy 20 = .ok (.iload_n 0, 1) := dk_26 (dk_at dksX6_kindBy_0 20 rfl rfl)
theorem dX6_kindBy_21 : decode cX6_kindBy 21 = .ok (.bipush 116, 2) := dk_16 116 (dk_at dksX6_kindBy_0 21 rfl rfl)
theorem dX6_kindBy_23 : decode cX6_kindBy 23 = .ok (.if_icmp .ne 7, 3) := dk_160 0 7 (dk_at dksX6_kindBy_1 0 rfl rfl)
theorem dX6_kindBy_26 : decode cX6_kindBy 26 = .ok (.iconst 2, 1) := dk_5 (dk_at dksX6_kindBy_1 3 rfl rfl)
theorem dX6_kindBy_27 : decode cX6_kindBy 27 = .ok (.goto 14, 3) := dk_167 0 14 (dk_at dksX6_kindBy_1 4 rfl rfl)
theorem dX6_kindBy_30 : decode cX6_kindBy 30 = .ok (.iload_n 0, 1) := dk_26 (dk_at dksX6_kindBy_1 7 rfl rfl)
theorem dX6_kindBy_31 : decode cX6_kindBy 31 = .ok (.bipush 115, 2) := dk_16 115 (dk_at dksX6_kindBy_1 8 rfl rfl)
theorem dX6_kindBy_33 : decode cX6_kindBy 33 = .ok (.if_icmp .ne 7, 3) := dk_160 0 7 (dk_at dksX6_kindBy_1 10 rfl rfl)
theorem dX6_kindBy_36 : decode cX6_kindBy 36 = .ok (.iconst 3, 1) := dk_6 (dk_at dksX6_kindBy_1 13 rfl rfl)
theorem dX6_kindBy_37 : decode cX6_kindBy 37 = .ok (.goto 4, 3) := dk_167 0 4 (dk_at dksX6_kindBy_1 14 rfl rfl)
theorem dX6_kindBy_40 : decode cX6_kindBy 40 = .ok (.iconst (-1), 1) := dk_2 (dk_at dksX6_kindBy_1 17 rfl rfl)
theorem dX6_kindBy_41 : decode cX6_kindBy 41 = .ok (.ireturn, 1) := dk_172 (dk_at dksX6_kindBy_1 18 rfl rfl)
abbrev cX6_isIn : ByteArray := prog_11_method_4_code
def yX6_isIn : MethodName := ⟨RX6, "isIn", "(II)Z"⟩
def dkwX6_isIn_0 : List UInt8 := [26, 27, 122, 4, 126, 4, 160, 0, 7, 4, 167, 0, 4, 3, 172]
abbrev dktX6_isIn_0 : List UInt8 := dkwX6_isIn_0 ++ []
theorem dksX6_isIn_0 : cX6_isIn.data.toList.drop 0 = dktX6_isIn_0 := by decide +kernel
theorem dX6_isIn_0 : decode cX6_isIn 0 = .ok (.iload_n 0, 1) := dk_26 (dk_at dksX6_isIn_0 0 rfl rfl)
theorem dX6_isIn_1 : decode cX6_isIn 1 = .ok (.iload_n 1, 1) := dk_27 (dk_at dksX6_isIn_0 1 rfl rfl)
theorem dX6_isIn_2 : decode cX6_isIn 2 = .ok (.ishr, 1) := dk_122 (dk_at dksX6_isIn_0 2 rfl rfl)
theorem dX6_isIn_3 : decode cX6_isIn 3 = .ok (.iconst 1, 1) := dk_4 (dk_at dksX6_isIn_0 3 rfl rfl)
theorem dX6_isIn_4 : decode cX6_isIn 4 = .ok (.iand, 1) := dk_126 (dk_at dksX6_isIn_0 4 rfl rfl)
theorem dX6_isIn_5 : decode cX6_isIn 5 = .ok (.iconst 1, 1) := dk_4 (dk_at dksX6_isIn_0 5 rfl rfl)
theorem dX6_isIn_6 : decode cX6_isIn 6 = .ok (.if_icmp .ne 7, 3) := dk_160 0 7 (dk_at dksX6_isIn_0 6 rfl rfl)
theorem dX6_isIn_9 : decode cX6_isIn 9 = .ok (.iconst 1, 1) := dk_4 (dk_at dksX6_isIn_0 9 rfl rfl)
theorem dX6_isIn_10 : decode cX6_isIn 10 = .ok (.goto 4, 3) := dk_167 0 4 (dk_at dksX6_isIn_0 10 rfl rfl)
theorem dX6_isIn_13 : decode cX6_isIn 13 = .ok (.iconst 0, 1) := dk_3 (dk_at dksX6_isIn_0 13 rfl rfl)
theorem dX6_isIn_14 : decode cX6_isIn 14 = .ok (.ireturn, 1) := dk_172 (dk_at dksX6_isIn_0 14 rfl rfl)
abbrev cX6_readsRules : ByteArray := prog_11_method_15_code
def yX6_readsRules : MethodName := ⟨RX6, "readsRules", "()I"⟩
def dkwX6_readsRules_7 : List UInt8 := [4, 27, 182, 0, 111, 16, 59, 159, 0, 5, 27, 172, 132, 1, 1, 167, 255, 83, 2, 172]
abbrev dktX6_readsRules_7 : List UInt8 := dkwX6_readsRules_7 ++ []
def dkwX6_readsRules_6 : List UInt8 := [60, 42, 89, 180, 0, 123, 4, 96, 181, 0, 123, 27, 42, 180, 0, 7, 4, 46, 160, 0, 5, 2, 172, 42]
abbrev dktX6_readsRules_6 : List UInt8 := dkwX6_readsRules_6 ++ dktX6_readsRules_7
def dkwX6_readsRules_5 : List UInt8 := [4, 27, 182, 0, 111, 16, 104, 160, 0, 7, 4, 167, 0, 4, 3, 79, 27, 42, 180, 0, 37, 28, 46, 96]
abbrev dktX6_readsRules_5 : List UInt8 := dkwX6_readsRules_5 ++ dktX6_readsRules_6
def dkwX6_readsRules_4 : List UInt8 := [160, 0, 7, 4, 167, 0, 4, 3, 79, 27, 42, 180, 0, 34, 28, 46, 96, 60, 42, 180, 0, 37, 28, 42]
abbrev dktX6_readsRules_4 : List UInt8 := dkwX6_readsRules_4 ++ dktX6_readsRules_5
def dkwX6_readsRules_3 : List UInt8 := [182, 0, 111, 16, 48, 100, 79, 132, 1, 2, 42, 180, 0, 34, 28, 42, 4, 27, 182, 0, 111, 16, 119]
abbrev dktX6_readsRules_3 : List UInt8 := dkwX6_readsRules_3 ++ dktX6_readsRules_4
def dkwX6_readsRules_2 : List UInt8 := [16, 52, 184, 0, 103, 154, 0, 7, 27, 4, 96, 172, 42, 180, 0, 31, 28, 42, 4, 27, 4, 96]
abbrev dktX6_readsRules_2 : List UInt8 := dkwX6_readsRules_2 ++ dktX6_readsRules_3
def dkwX6_readsRules_1 : List UInt8 := [182, 0, 111, 184, 0, 115, 61, 28, 2, 160, 0, 5, 27, 172, 42, 4, 27, 4, 96, 182, 0, 111, 16, 48]
abbrev dktX6_readsRules_1 : List UInt8 := dkwX6_readsRules_1 ++ dktX6_readsRules_2
def dkwX6_readsRules_0 : List UInt8 := [42, 182, 0, 126, 3, 60, 27, 42, 180, 0, 7, 4, 46, 161, 0, 7, 27, 158, 0, 165, 42, 4, 27]
abbrev dktX6_readsRules_0 : List UInt8 := dkwX6_readsRules_0 ++ dktX6_readsRules_1
theorem dksX6_readsRules_0 : cX6_readsRules.data.toList.drop 0 = dktX6_readsRules_0 := by decide +kernel
theorem dksX6_readsRules_1 : cX6_readsRules.data.toList.drop 23 = dktX6_readsRules_1 := dk_seg dksX6_readsRules_0 23 rfl rfl
theorem dksX6_readsRules_2 : cX6_readsRules.data.toList.drop 47 = dktX6_readsRules_2 := dk_seg dksX6_readsRules_1 24 rfl rfl
theorem dksX6_readsRules_3 : cX6_readsRules.data.toList.drop 69 = dktX6_readsRules_3 := dk_seg dksX6_readsRules_2 22 rfl rfl
theorem dksX6_readsRules_4 : cX6_readsRules.data.toList.drop 92 = dktX6_readsRules_4 := dk_seg dksX6_readsRules_3 23 rfl rfl
theorem dksX6_readsRules_5 : cX6_readsRules.data.toList.drop 116 = dktX6_readsRules_5 := dk_seg dksX6_readsRules_4 24 rfl rfl
theorem dksX6_readsRules_6 : cX6_readsRules.data.toList.drop 140 = dktX6_readsRules_6 := dk_seg dksX6_readsRules_5 24 rfl rfl
theorem dksX6_readsRules_7 : cX6_readsRules.data.toList.drop 164 = dktX6_readsRules_7 := dk_seg dksX6_readsRules_6 24 rfl rfl
theorem dX6_readsRules_0 : decode cX6_readsRules 0 = .ok (.aload_n 0, 1) := dk_42 (dk_at dksX6_readsRules_0 0 rfl rfl)
theorem dX6_readsRules_1 : decode cX6_readsRules 1 = .ok (.invokevirtual 126, 3) := dk_182 0 126 (dk_at dksX6_readsRules_0 1 rfl rfl)
theorem dX6_readsRules_4 : decode cX6_readsRules 4 = .ok (.iconst 0, 1) := dk_3 (dk_at dksX6_readsRules_0 4 rfl rfl)
theorem dX6_readsRules_5 : decode cX6_readsRules 5 = .ok (.istore_n 1, 1) := dk_60 (dk_at dksX6_readsRules_0 5 rfl rfl)
theorem dX6_readsRules_6 : decode cX6_readsRules 6 = .ok (.iload_n 1, 1) := dk_27 (dk_at dksX6_readsRules_0 6 rfl rfl)
theorem dX6_readsRules_7 : decode cX6_readsRules 7 = .ok (.aload_n 0, 1) := dk_42 (dk_at dksX6_readsRules_0 7 rfl rfl)
theorem dX6_readsRules_8 : decode cX6_readsRules 8 = .ok (.getfield 7, 3) := dk_180 0 7 (dk_at dksX6_readsRules_0 8 rfl rfl)
theorem dX6_readsRules_11 : decode cX6_readsRules 11 = .ok (.iconst 1, 1) := dk_4 (dk_at dksX6_readsRules_0 11 rfl rfl)
theorem dX6_readsRules_12 : decode cX6_readsRules 12 = .ok (.iaload, 1) := dk_46 (dk_at dksX6_readsRules_0 12 rfl rfl)
theorem dX6_readsRules_13 : decode cX6_readsRules 13 = .ok (.if_icmp .lt 7, 3) := dk_161 0 7 (dk_at dksX6_readsRules_0 13 rfl rfl)
theorem dX6_readsRules_16 : decode cX6_readsRules 16 = .ok (.iload_n 1, 1) := dk_27 (dk_at dksX6_readsRules_0 16 rfl rfl)
theorem dX6_readsRules_17 : decode cX6_readsRules 17 = .ok (.ifCond .le 165, 3) := dk_158 0 165 (dk_at dksX6_readsRules_0 17 rfl rfl)
theorem dX6_readsRules_20 : decode cX6_readsRules 20 = .ok (.aload_n 0, 1) := dk_42 (dk_at dksX6_readsRules_0 20 rfl rfl)
theorem dX6_readsRules_21 : decode cX6_readsRules 21 = .ok (.iconst 1, 1) := dk_4 (dk_at dksX6_readsRules_0 21 rfl rfl)
theorem dX6_readsRules_22 : decode cX6_readsRules 22 = .ok (.iload_n 1, 1) := dk_27 (dk_at dksX6_readsRules_0 22 rfl rfl)
theorem dX6_readsRules_23 : decode cX6_readsRules 23 = .ok (.invokevirtual 111, 3) := dk_182 0 111 (dk_at dksX6_readsRules_1 0 rfl rfl)
theorem dX6_readsRules_26 : decode cX6_readsRules 26 = .ok (.invokestatic 115, 3) := dk_184 0 115 (dk_at dksX6_readsRules_1 3 rfl rfl)
theorem dX6_readsRules_29 : decode cX6_readsRules 29 = .ok (.istore_n 2, 1) := dk_61 (dk_at dksX6_readsRules_1 6 rfl rfl)
theorem dX6_readsRules_30 : decode cX6_readsRules 30 = .ok (.iload_n 2, 1) := dk_28 (dk_at dksX6_readsRules_1 7 rfl rfl)
theorem dX6_readsRules_31 : decode cX6_readsRules 31 = .ok (.iconst (-1), 1) := dk_2 (dk_at dksX6_readsRules_1 8 rfl rfl)
theorem dX6_readsRules_32 : decode cX6_readsRules 32 = .ok (.if_icmp .ne 5, 3) := dk_160 0 5 (dk_at dksX6_readsRules_1 9 rfl rfl)
theorem dX6_readsRules_35 : decode cX6_readsRules 35 = .ok (.iload_n 1, 1) := dk_27 (dk_at dksX6_readsRules_1 12 rfl rfl)
theorem dX6_readsRules_36 : decode cX6_readsRules 36 = .ok (.ireturn, 1) := dk_172 (dk_at dksX6_readsRules_1 13 rfl rfl)
theorem dX6_readsRules_37 : decode cX6_readsRules 37 = .ok (.aload_n 0, 1) := dk_42 (dk_at dksX6_readsRules_1 14 rfl rfl)
theorem dX6_readsRules_38 : decode cX6_readsRules 38 = .ok (.iconst 1, 1) := dk_4 (dk_at dksX6_readsRules_1 15 rfl rfl)
theorem dX6_readsRules_39 : decode cX6_readsRules 39 = .ok (.iload_n 1, 1) := dk_27 (dk_at dksX6_readsRules_1 16 rfl rfl)
theorem dX6_readsRules_40 : decode cX6_readsRules 40 = .ok (.iconst 1, 1) := dk_4 (dk_at dksX6_readsRules_1 17 rfl rfl)
theorem dX6_readsRules_41 : decode cX6_readsRules 41 = .ok (.iadd, 1) := dk_96 (dk_at dksX6_readsRules_1 18 rfl rfl)
theorem dX6_readsRules_42 : decode cX6_readsRules 42 = .ok (.invokevirtual 111, 3) := dk_182 0 111 (dk_at dksX6_readsRules_1 19 rfl rfl)
theorem dX6_readsRules_45 : decode cX6_readsRules 45 = .ok (.bipush 48, 2) := dk_16 48 (dk_at dksX6_readsRules_1 22 rfl rfl)
theorem dX6_readsRules_47 : decode cX6_readsRules 47 = .ok (.bipush 52, 2) := dk_16 52 (dk_at dksX6_readsRules_2 0 rfl rfl)
theorem dX6_readsRules_49 : decode cX6_readsRules 49 = .ok (.invokestatic 103, 3) := dk_184 0 103 (dk_at dksX6_readsRules_2 2 rfl rfl)
theorem dX6_readsRules_52 : decode cX6_readsRules 52 = .ok (.ifCond .ne 7, 3) := dk_154 0 7 (dk_at dksX6_readsRules_2 5 rfl rfl)
theorem dX6_readsRules_55 : decode cX6_readsRules 55 = .ok (.iload_n 1, 1) := dk_27 (dk_at dksX6_readsRules_2 8 rfl rfl)
theorem dX6_readsRules_56 : decode cX6_readsRules 56 = .ok (.iconst 1, 1) := dk_4 (dk_at dksX6_readsRules_2 9 rfl rfl)
theorem dX6_readsRules_57 : decode cX6_readsRules 57 = .ok (.iadd, 1) := dk_96 (dk_at dksX6_readsRules_2 10 rfl rfl)
theorem dX6_readsRules_58 : decode cX6_readsRules 58 = .ok (.ireturn, 1) := dk_172 (dk_at dksX6_readsRules_2 11 rfl rfl)
theorem dX6_readsRules_59 : decode cX6_readsRules 59 = .ok (.aload_n 0, 1) := dk_42 (dk_at dksX6_readsRules_2 12 rfl rfl)
theorem dX6_readsRules_60 : decode cX6_readsRules 60 = .ok (.getfield 31, 3) := dk_180 0 31 (dk_at dksX6_readsRules_2 13 rfl rfl)
theorem dX6_readsRules_63 : decode cX6_readsRules 63 = .ok (.iload_n 2, 1) := dk_28 (dk_at dksX6_readsRules_2 16 rfl rfl)
theorem dX6_readsRules_64 : decode cX6_readsRules 64 = .ok (.aload_n 0, 1) := dk_42 (dk_at dksX6_readsRules_2 17 rfl rfl)
theorem dX6_readsRules_65 : decode cX6_readsRules 65 = .ok (.iconst 1, 1) := dk_4 (dk_at dksX6_readsRules_2 18 rfl rfl)
theorem dX6_readsRules_66 : decode cX6_readsRules 66 = .ok (.iload_n 1, 1) := dk_27 (dk_at dksX6_readsRules_2 19 rfl rfl)
theorem dX6_readsRules_67 : decode cX6_readsRules 67 = .ok (.iconst 1, 1) := dk_4 (dk_at dksX6_readsRules_2 20 rfl rfl)
theorem dX6_readsRules_68 : decode cX6_readsRules 68 = .ok (.iadd, 1) := dk_96 (dk_at dksX6_readsRules_2 21 rfl rfl)
theorem dX6_readsRules_69 : decode cX6_readsRules 69 = .ok (.invokevirtual 111, 3) := dk_182 0 111 (dk_at dksX6_readsRules_3 0 rfl rfl)
theorem dX6_readsRules_72 : decode cX6_readsRules 72 = .ok (.bipush 48, 2) := dk_16 48 (dk_at dksX6_readsRules_3 3 rfl rfl)
theorem dX6_readsRules_74 : decode cX6_readsRules 74 = .ok (.isub, 1) := dk_100 (dk_at dksX6_readsRules_3 5 rfl rfl)
theorem dX6_readsRules_75 : decode cX6_readsRules 75 = .ok (.iastore, 1) := dk_79 (dk_at dksX6_readsRules_3 6 rfl rfl)
theorem dX6_readsRules_76 : decode cX6_readsRules 76 = .ok (.iinc 1 2, 3) := dk_132 1 2 (dk_at dksX6_readsRules_3 7 rfl rfl)
theorem dX6_readsRules_79 : decode cX6_readsRules 79 = .ok (.aload_n 0, 1) := dk_42 (dk_at dksX6_readsRules_3 10 rfl rfl)
theorem dX6_readsRules_80 : decode cX6_readsRules 80 = .ok (.getfield 34, 3) := dk_180 0 34 (dk_at dksX6_readsRules_3 11 rfl rfl)
theorem dX6_readsRules_83 : decode cX6_readsRules 83 = .ok (.iload_n 2, 1) := dk_28 (dk_at dksX6_readsRules_3 14 rfl rfl)
theorem dX6_readsRules_84 : decode cX6_readsRules 84 = .ok (.aload_n 0, 1) := dk_42 (dk_at dksX6_readsRules_3 15 rfl rfl)
theorem dX6_readsRules_85 : decode cX6_readsRules 85 = .ok (.iconst 1, 1) := dk_4 (dk_at dksX6_readsRules_3 16 rfl rfl)
theorem dX6_readsRules_86 : decode cX6_readsRules 86 = .ok (.iload_n 1, 1) := dk_27 (dk_at dksX6_readsRules_3 17 rfl rfl)
theorem dX6_readsRules_87 : decode cX6_readsRules 87 = .ok (.invokevirtual 111, 3) := dk_182 0 111 (dk_at dksX6_readsRules_3 18 rfl rfl)
theorem dX6_readsRules_90 : decode cX6_readsRules 90 = .ok (.bipush 119, 2) := dk_16 119 (dk_at dksX6_readsRules_3 21 rfl rfl)
theorem dX6_readsRules_92 : decode cX6_readsRules 92 = .ok (.if_icmp .ne 7, 3) := dk_160 0 7 (dk_at dksX6_readsRules_4 0 rfl rfl)
theorem dX6_readsRules_95 : decode cX6_readsRules 95 = .ok (.iconst 1, 1) := dk_4 (dk_at dksX6_readsRules_4 3 rfl rfl)
theorem dX6_readsRules_96 : decode cX6_readsRules 96 = .ok (.goto 4, 3) := dk_167 0 4 (dk_at dksX6_readsRules_4 4 rfl rfl)
theorem dX6_readsRules_99 : decode cX6_readsRules 99 = .ok (.iconst 0, 1) := dk_3 (dk_at dksX6_readsRules_4 7 rfl rfl)
theorem dX6_readsRules_100 : decode cX6_readsRules 100 = .ok (.iastore, 1) := dk_79 (dk_at dksX6_readsRules_4 8 rfl rfl)
theorem dX6_readsRules_101 : decode cX6_readsRules 101 = .ok (.iload_n 1, 1) := dk_27 (dk_at dksX6_readsRules_4 9 rfl rfl)
theorem dX6_readsRules_102 : decode cX6_readsRules 102 = .ok (.aload_n 0, 1) := dk_42 (dk_at dksX6_readsRules_4 10 rfl rfl)
theorem dX6_readsRules_103 : decode cX6_readsRules 103 = .ok (.getfield 34, 3) := dk_180 0 34 (dk_at dksX6_readsRules_4 11 rfl rfl)
theorem dX6_readsRules_106 : decode cX6_readsRules 106 = .ok (.iload_n 2, 1) := dk_28 (dk_at dksX6_readsRules_4 14 rfl rfl)
theorem dX6_readsRules_107 : decode cX6_readsRules 107 = .ok (.iaload, 1) := dk_46 (dk_at dksX6_readsRules_4 15 rfl rfl)
theorem dX6_readsRules_108 : decode cX6_readsRules 108 = .ok (.iadd, 1) := dk_96 (dk_at dksX6_readsRules_4 16 rfl rfl)
theorem dX6_readsRules_109 : decode cX6_readsRules 109 = .ok (.istore_n 1, 1) := dk_60 (dk_at dksX6_readsRules_4 17 rfl rfl)
theorem dX6_readsRules_110 : decode cX6_readsRules 110 = .ok (.aload_n 0, 1) := dk_42 (dk_at dksX6_readsRules_4 18 rfl rfl)
theorem dX6_readsRules_111 : decode cX6_readsRules 111 = .ok (.getfield 37, 3) := dk_180 0 37 (dk_at dksX6_readsRules_4 19 rfl rfl)
theorem dX6_readsRules_114 : decode cX6_readsRules 114 = .ok (.iload_n 2, 1) := dk_28 (dk_at dksX6_readsRules_4 22 rfl rfl)
theorem dX6_readsRules_115 : decode cX6_readsRules 115 = .ok (.aload_n 0, 1) := dk_42 (dk_at dksX6_readsRules_4 23 rfl rfl)
theorem dX6_readsRules_116 : decode cX6_readsRules 116 = .ok (.iconst 1, 1) := dk_4 (dk_at dksX6_readsRules_5 0 rfl rfl)
theorem dX6_readsRules_117 : decode cX6_readsRules 117 = .ok (.iload_n 1, 1) := dk_27 (dk_at dksX6_readsRules_5 1 rfl rfl)
theorem dX6_readsRules_118 : decode cX6_readsRules 118 = .ok (.invokevirtual 111, 3) := dk_182 0 111 (dk_at dksX6_readsRules_5 2 rfl rfl)
theorem dX6_readsRules_121 : decode cX6_readsRules 121 = .ok (.bipush 104, 2) := dk_16 104 (dk_at dksX6_readsRules_5 5 rfl rfl)
theorem dX6_readsRules_123 : decode cX6_readsRules 123 = .ok (.if_icmp .ne 7, 3) := dk_160 0 7 (dk_at dksX6_readsRules_5 7 rfl rfl)
theorem dX6_readsRules_126 : decode cX6_readsRules 126 = .ok (.iconst 1, 1) := dk_4 (dk_at dksX6_readsRules_5 10 rfl rfl)
theorem dX6_readsRules_127 : decode cX6_readsRules 127 = .ok (.goto 4, 3) := dk_167 0 4 (dk_at dksX6_readsRules_5 11 rfl rfl)
theorem dX6_readsRules_130 : decode cX6_readsRules 130 = .ok (.iconst 0, 1) := dk_3 (dk_at dksX6_readsRules_5 14 rfl rfl)
theorem dX6_readsRules_131 : decode cX6_readsRules 131 = .ok (.iastore, 1) := dk_79 (dk_at dksX6_readsRules_5 15 rfl rfl)
theorem dX6_readsRules_132 : decode cX6_readsRules 132 = .ok (.iload_n 1, 1) := dk_27 (dk_at dksX6_readsRules_5 16 rfl rfl)
theorem dX6_readsRules_133 : decode cX6_readsRules 133 = .ok (.aload_n 0, 1) := dk_42 (dk_at dksX6_readsRules_5 17 rfl rfl)
theorem dX6_readsRules_134 : decode cX6_readsRules 134 = .ok (.getfield 37, 3) := dk_180 0 37 (dk_at dksX6_readsRules_5 18 rfl rfl)
theorem dX6_readsRules_137 : decode cX6_readsRules 137 = .ok (.iload_n 2, 1) := dk_28 (dk_at dksX6_readsRules_5 21 rfl rfl)
theorem dX6_readsRules_138 : decode cX6_readsRules 138 = .ok (.iaload, 1) := dk_46 (dk_at dksX6_readsRules_5 22 rfl rfl)
theorem dX6_readsRules_139 : decode cX6_readsRules 139 = .ok (.iadd, 1) := dk_96 (dk_at dksX6_readsRules_5 23 rfl rfl)
theorem dX6_readsRules_140 : decode cX6_readsRules 140 = .ok (.istore_n 1, 1) := dk_60 (dk_at dksX6_readsRules_6 0 rfl rfl)
theorem dX6_readsRules_141 : decode cX6_readsRules 141 = .ok (.aload_n 0, 1) := dk_42 (dk_at dksX6_readsRules_6 1 rfl rfl)
theorem dX6_readsRules_142 : decode cX6_readsRules 142 = .ok (.dup, 1) := dk_89 (dk_at dksX6_readsRules_6 2 rfl rfl)
theorem dX6_readsRules_143 : decode cX6_readsRules 143 = .ok (.getfield 123, 3) := dk_180 0 123 (dk_at dksX6_readsRules_6 3 rfl rfl)
theorem dX6_readsRules_146 : decode cX6_readsRules 146 = .ok (.iconst 1, 1) := dk_4 (dk_at dksX6_readsRules_6 6 rfl rfl)
theorem dX6_readsRules_147 : decode cX6_readsRules 147 = .ok (.iadd, 1) := dk_96 (dk_at dksX6_readsRules_6 7 rfl rfl)
theorem dX6_readsRules_148 : decode cX6_readsRules 148 = .ok (.putfield 123, 3) := dk_181 0 123 (dk_at dksX6_readsRules_6 8 rfl rfl)
theorem dX6_readsRules_151 : decode cX6_readsRules 151 = .ok (.iload_n 1, 1) := dk_27 (dk_at dksX6_readsRules_6 11 rfl rfl)
theorem dX6_readsRules_152 : decode cX6_readsRules 152 = .ok (.aload_n 0, 1) := dk_42 (dk_at dksX6_readsRules_6 12 rfl rfl)
theorem dX6_readsRules_153 : decode cX6_readsRules 153 = .ok (.getfield 7, 3) := dk_180 0 7 (dk_at dksX6_readsRules_6 13 rfl rfl)
theorem dX6_readsRules_156 : decode cX6_readsRules 156 = .ok (.iconst 1, 1) := dk_4 (dk_at dksX6_readsRules_6 16 rfl rfl)
theorem dX6_readsRules_157 : decode cX6_readsRules 157 = .ok (.iaload, 1) := dk_46 (dk_at dksX6_readsRules_6 17 rfl rfl)
theorem dX6_readsRules_158 : decode cX6_readsRules 158 = .ok (.if_icmp .ne 5, 3) := dk_160 0 5 (dk_at dksX6_readsRules_6 18 rfl rfl)
theorem dX6_readsRules_161 : decode cX6_readsRules 161 = .ok (.iconst (-1), 1) := dk_2 (dk_at dksX6_readsRules_6 21 rfl rfl)
theorem dX6_readsRules_162 : decode cX6_readsRules 162 = .ok (.ireturn, 1) := dk_172 (dk_at dksX6_readsRules_6 22 rfl rfl)
theorem dX6_readsRules_163 : decode cX6_readsRules 163 = .ok (.aload_n 0, 1) := dk_42 (dk_at dksX6_readsRules_6 23 rfl rfl)
theorem dX6_readsRules_164 : decode cX6_readsRules 164 = .ok (.iconst 1, 1) := dk_4 (dk_at dksX6_readsRules_7 0 rfl rfl)
theorem dX6_readsRules_165 : decode cX6_readsRules 165 = .ok (.iload_n 1, 1) := dk_27 (dk_at dksX6_readsRules_7 1 rfl rfl)
theorem dX6_readsRules_166 : decode cX6_readsRules 166 = .ok (.invokevirtual 111, 3) := dk_182 0 111 (dk_at dksX6_readsRules_7 2 rfl rfl)
theorem dX6_readsRules_169 : decode cX6_readsRules 169 = .ok (.bipush 59, 2) := dk_16 59 (dk_at dksX6_readsRules_7 5 rfl rfl)
theorem dX6_readsRules_171 : decode cX6_readsRules 171 = .ok (.if_icmp .eq 5, 3) := dk_159 0 5 (dk_at dksX6_readsRules_7 7 rfl rfl)
theorem dX6_readsRules_174 : decode cX6_readsRules 174 = .ok (.iload_n 1, 1) := dk_27 (dk_at dksX6_readsRules_7 10 rfl rfl)
theorem dX6_readsRules_175 : decode cX6_readsRules 175 = .ok (.ireturn, 1) := dk_172 (dk_at dksX6_readsRules_7 11 rfl rfl)
theorem dX6_readsRules_176 : decode cX6_readsRules 176 = .ok (.iinc 1 1, 3) := dk_132 1 1 (dk_at dksX6_readsRules_7 12 rfl rfl)
theorem dX6_readsRules_179 : decode cX6_readsRules 179 = .ok (.goto (-173), 3) := dk_167 255 83 (dk_at dksX6_readsRules_7 15 rfl rfl)
theorem dX6_readsRules_182 : decode cX6_readsRules 182 = .ok (.iconst (-1), 1) := dk_2 (dk_at dksX6_readsRules_7 18 rfl rfl)
theorem dX6_readsRules_183 : decode cX6_readsRules 183 = .ok (.ireturn, 1) := dk_172 (dk_at dksX6_readsRules_7 19 rfl rfl)
abbrev cX6_noRules : ByteArray := prog_11_method_14_code
def yX6_noRules : MethodName := ⟨RX6, "noRules", "()V"⟩
def dkwX6_noRules_1 : List UInt8 := [3, 79, 42, 180, 0, 37, 27, 3, 79, 132, 1, 1, 167, 255, 227, 177]
abbrev dktX6_noRules_1 : List UInt8 := dkwX6_noRules_1 ++ []
def dkwX6_noRules_0 : List UInt8 := [42, 3, 181, 0, 123, 3, 60, 27, 7, 162, 0, 30, 42, 180, 0, 31, 27, 3, 79, 42, 180, 0, 34, 27]
abbrev dktX6_noRules_0 : List UInt8 := dkwX6_noRules_0 ++ dktX6_noRules_1
theorem dksX6_noRules_0 : cX6_noRules.data.toList.drop 0 = dktX6_noRules_0 := by decide +kernel
theorem dksX6_noRules_1 : cX6_noRules.data.toList.drop 24 = dktX6_noRules_1 := dk_seg dksX6_noRules_0 24 rfl rfl
theorem dX6_noRules_0 : decode cX6_noRules 0 = .ok (.aload_n 0, 1) := dk_42 (dk_at dksX6_noRules_0 0 rfl rfl)
theorem dX6_noRules_1 : decode cX6_noRules 1 = .ok (.iconst 0, 1) := dk_3 (dk_at dksX6_noRules_0 1 rfl rfl)
theorem dX6_noRules_2 : decode cX6_noRules 2 = .ok (.putfield 123, 3) := dk_181 0 123 (dk_at dksX6_noRules_0 2 rfl rfl)
theorem dX6_noRules_5 : decode cX6_noRules 5 = .ok (.iconst 0, 1) := dk_3 (dk_at dksX6_noRules_0 5 rfl rfl)
theorem dX6_noRules_6 : decode cX6_noRules 6 = .ok (.istore_n 1, 1) := dk_60 (dk_at dksX6_noRules_0 6 rfl rfl)
theorem dX6_noRules_7 : decode cX6_noRules 7 = .ok (.iload_n 1, 1) := dk_27 (dk_at dksX6_noRules_0 7 rfl rfl)
theorem dX6_noRules_8 : decode cX6_noRules 8 = .ok (.iconst 4, 1) := dk_7 (dk_at dksX6_noRules_0 8 rfl rfl)
theorem dX6_noRules_9 : decode cX6_noRules 9 = .ok (.if_icmp .ge 30, 3) := dk_162 0 30 (dk_at dksX6_noRules_0 9 rfl rfl)
theorem dX6_noRules_12 : decode cX6_noRules 12 = .ok (.aload_n 0, 1) := dk_42 (dk_at dksX6_noRules_0 12 rfl rfl)
theorem dX6_noRules_13 : decode cX6_noRules 13 = .ok (.getfield 31, 3) := dk_180 0 31 (dk_at dksX6_noRules_0 13 rfl rfl)
theorem dX6_noRules_16 : decode cX6_noRules 16 = .ok (.iload_n 1, 1) := dk_27 (dk_at dksX6_noRules_0 16 rfl rfl)
theorem dX6_noRules_17 : decode cX6_noRules 17 = .ok (.iconst 0, 1) := dk_3 (dk_at dksX6_noRules_0 17 rfl rfl)
theorem dX6_noRules_18 : decode cX6_noRules 18 = .ok (.iastore, 1) := dk_79 (dk_at dksX6_noRules_0 18 rfl rfl)
theorem dX6_noRules_19 : decode cX6_noRules 19 = .ok (.aload_n 0, 1) := dk_42 (dk_at dksX6_noRules_0 19 rfl rfl)
theorem dX6_noRules_20 : decode cX6_noRules 20 = .ok (.getfield 34, 3) := dk_180 0 34 (dk_at dksX6_noRules_0 20 rfl rfl)
theorem dX6_noRules_23 : decode cX6_noRules 23 = .ok (.iload_n 1, 1) := dk_27 (dk_at dksX6_noRules_0 23 rfl rfl)
theorem dX6_noRules_24 : decode cX6_noRules 24 = .ok (.iconst 0, 1) := dk_3 (dk_at dksX6_noRules_1 0 rfl rfl)
theorem dX6_noRules_25 : decode cX6_noRules 25 = .ok (.iastore, 1) := dk_79 (dk_at dksX6_noRules_1 1 rfl rfl)
theorem dX6_noRules_26 : decode cX6_noRules 26 = .ok (.aload_n 0, 1) := dk_42 (dk_at dksX6_noRules_1 2 rfl rfl)
theorem dX6_noRules_27 : decode cX6_noRules 27 = .ok (.getfield 37, 3) := dk_180 0 37 (dk_at dksX6_noRules_1 3 rfl rfl)
theorem dX6_noRules_30 : decode cX6_noRules 30 = .ok (.iload_n 1, 1) := dk_27 (dk_at dksX6_noRules_1 6 rfl rfl)
theorem dX6_noRules_31 : decode cX6_noRules 31 = .ok (.iconst 0, 1) := dk_3 (dk_at dksX6_noRules_1 7 rfl rfl)
theorem dX6_noRules_32 : decode cX6_noRules 32 = .ok (.iastore, 1) := dk_79 (dk_at dksX6_noRules_1 8 rfl rfl)
theorem dX6_noRules_33 : decode cX6_noRules 33 = .ok (.iinc 1 1, 3) := dk_132 1 1 (dk_at dksX6_noRules_1 9 rfl rfl)
theorem dX6_noRules_36 : decode cX6_noRules 36 = .ok (.goto (-29), 3) := dk_167 255 227 (dk_at dksX6_noRules_1 12 rfl rfl)
theorem dX6_noRules_39 : decode cX6_noRules 39 = .ok (.return_, 1) := dk_177 (dk_at dksX6_noRules_1 15 rfl rfl)
abbrev cX6_deed : ByteArray := prog_11_method_21_code
def yX6_deed : MethodName := ⟨RX6, "deed", "(II)I"⟩
def dkwX6_deed_1 : List UInt8 := [167, 0, 5, 16, 254, 172]
abbrev dktX6_deed_1 : List UInt8 := dkwX6_deed_1 ++ []
def dkwX6_deed_0 : List UInt8 := [42, 27, 182, 0, 142, 153, 0, 21, 28, 3, 7, 184, 0, 103, 153, 0, 12, 42, 27, 28, 182, 0, 146]
abbrev dktX6_deed_0 : List UInt8 := dkwX6_deed_0 ++ dktX6_deed_1
theorem dksX6_deed_0 : cX6_deed.data.toList.drop 0 = dktX6_deed_0 := by decide +kernel
theorem dksX6_deed_1 : cX6_deed.data.toList.drop 23 = dktX6_deed_1 := dk_seg dksX6_deed_0 23 rfl rfl
theorem dX6_deed_0 : decode cX6_deed 0 = .ok (.aload_n 0, 1) := dk_42 (dk_at dksX6_deed_0 0 rfl rfl)
theorem dX6_deed_1 : decode cX6_deed 1 = .ok (.iload_n 1, 1) := dk_27 (dk_at dksX6_deed_0 1 rfl rfl)
theorem dX6_deed_2 : decode cX6_deed 2 = .ok (.invokevirtual 142, 3) := dk_182 0 142 (dk_at dksX6_deed_0 2 rfl rfl)
theorem dX6_deed_5 : decode cX6_deed 5 = .ok (.ifCond .eq 21, 3) := dk_153 0 21 (dk_at dksX6_deed_0 5 rfl rfl)
theorem dX6_deed_8 : decode cX6_deed 8 = .ok (.iload_n 2, 1) := dk_28 (dk_at dksX6_deed_0 8 rfl rfl)
theorem dX6_deed_9 : decode cX6_deed 9 = .ok (.iconst 0, 1) := dk_3 (dk_at dksX6_deed_0 9 rfl rfl)
theorem dX6_deed_10 : decode cX6_deed 10 = .ok (.iconst 4, 1) := dk_7 (dk_at dksX6_deed_0 10 rfl rfl)
theorem dX6_deed_11 : decode cX6_deed 11 = .ok (.invokestatic 103, 3) := dk_184 0 103 (dk_at dksX6_deed_0 11 rfl rfl)
theorem dX6_deed_14 : decode cX6_deed 14 = .ok (.ifCond .eq 12, 3) := dk_153 0 12 (dk_at dksX6_deed_0 14 rfl rfl)
theorem dX6_deed_17 : decode cX6_deed 17 = .ok (.aload_n 0, 1) := dk_42 (dk_at dksX6_deed_0 17 rfl rfl)
theorem dX6_deed_18 : decode cX6_deed 18 = .ok (.iload_n 1, 1) := dk_27 (dk_at dksX6_deed_0 18 rfl rfl)
theorem dX6_deed_19 : decode cX6_deed 19 = .ok (.iload_n 2, 1) := dk_28 (dk_at dksX6_deed_0 19 rfl rfl)
theorem dX6_deed_20 : decode cX6_deed 20 = .ok (.invokevirtual 146, 3) := dk_182 0 146 (dk_at dksX6_deed_0 20 rfl rfl)
theorem dX6_deed_23 : decode cX6_deed 23 = .ok (.goto 5, 3) := dk_167 0 5 (dk_at dksX6_deed_1 0 rfl rfl)
theorem dX6_deed_26 : decode cX6_deed 26 = .ok (.bipush (-2), 2) := dk_16 254 (dk_at dksX6_deed_1 3 rfl rfl)
theorem dX6_deed_28 : decode cX6_deed 28 = .ok (.ireturn, 1) := dk_172 (dk_at dksX6_deed_1 5 rfl rfl)
abbrev cX6_isDeed : ByteArray := prog_11_method_19_code
def yX6_isDeed : MethodName := ⟨RX6, "isDeed", "(I)Z"⟩
def dkwX6_isDeed_0 : List UInt8 := [42, 182, 0, 139, 27, 3, 42, 180, 0, 107, 4, 100, 184, 0, 103, 172]
abbrev dktX6_isDeed_0 : List UInt8 := dkwX6_isDeed_0 ++ []
theorem dksX6_isDeed_0 : cX6_isDeed.data.toList.drop 0 = dktX6_isDeed_0 := by decide +kernel
theorem dX6_isDeed_0 : decode cX6_isDeed 0 = .ok (.aload_n 0, 1) := dk_42 (dk_at dksX6_isDeed_0 0 rfl rfl)
theorem dX6_isDeed_1 : decode cX6_isDeed 1 = .ok (.invokevirtual 139, 3) := dk_182 0 139 (dk_at dksX6_isDeed_0 1 rfl rfl)
theorem dX6_isDeed_4 : decode cX6_isDeed 4 = .ok (.iload_n 1, 1) := dk_27 (dk_at dksX6_isDeed_0 4 rfl rfl)
theorem dX6_isDeed_5 : decode cX6_isDeed 5 = .ok (.iconst 0, 1) := dk_3 (dk_at dksX6_isDeed_0 5 rfl rfl)
theorem dX6_isDeed_6 : decode cX6_isDeed 6 = .ok (.aload_n 0, 1) := dk_42 (dk_at dksX6_isDeed_0 6 rfl rfl)
theorem dX6_isDeed_7 : decode cX6_isDeed 7 = .ok (.getfield 107, 3) := dk_180 0 107 (dk_at dksX6_isDeed_0 7 rfl rfl)
theorem dX6_isDeed_10 : decode cX6_isDeed 10 = .ok (.iconst 1, 1) := dk_4 (dk_at dksX6_isDeed_0 10 rfl rfl)
theorem dX6_isDeed_11 : decode cX6_isDeed 11 = .ok (.isub, 1) := dk_100 (dk_at dksX6_isDeed_0 11 rfl rfl)
theorem dX6_isDeed_12 : decode cX6_isDeed 12 = .ok (.invokestatic 103, 3) := dk_184 0 103 (dk_at dksX6_isDeed_0 12 rfl rfl)
theorem dX6_isDeed_15 : decode cX6_isDeed 15 = .ok (.ireturn, 1) := dk_172 (dk_at dksX6_isDeed_0 15 rfl rfl)
abbrev cX6_reads : ByteArray := prog_11_method_17_code
def yX6_reads : MethodName := ⟨RX6, "reads", "()V"⟩
def dkwX6_reads_0 : List UInt8 := [42, 3, 182, 0, 136, 60, 42, 4, 182, 0, 136, 60, 177]
abbrev dktX6_reads_0 : List UInt8 := dkwX6_reads_0 ++ []
theorem dksX6_reads_0 : cX6_reads.data.toList.drop 0 = dktX6_reads_0 := by decide +kernel
theorem dX6_reads_0 : decode cX6_reads 0 = .ok (.aload_n 0, 1) := dk_42 (dk_at dksX6_reads_0 0 rfl rfl)
theorem dX6_reads_1 : decode cX6_reads 1 = .ok (.iconst 0, 1) := dk_3 (dk_at dksX6_reads_0 1 rfl rfl)
theorem dX6_reads_2 : decode cX6_reads 2 = .ok (.invokevirtual 136, 3) := dk_182 0 136 (dk_at dksX6_reads_0 2 rfl rfl)
theorem dX6_reads_5 : decode cX6_reads 5 = .ok (.istore_n 1, 1) := dk_60 (dk_at dksX6_reads_0 5 rfl rfl)
theorem dX6_reads_6 : decode cX6_reads 6 = .ok (.aload_n 0, 1) := dk_42 (dk_at dksX6_reads_0 6 rfl rfl)
theorem dX6_reads_7 : decode cX6_reads 7 = .ok (.iconst 1, 1) := dk_4 (dk_at dksX6_reads_0 7 rfl rfl)
theorem dX6_reads_8 : decode cX6_reads 8 = .ok (.invokevirtual 136, 3) := dk_182 0 136 (dk_at dksX6_reads_0 8 rfl rfl)
theorem dX6_reads_11 : decode cX6_reads 11 = .ok (.istore_n 1, 1) := dk_60 (dk_at dksX6_reads_0 11 rfl rfl)
theorem dX6_reads_12 : decode cX6_reads 12 = .ok (.return_, 1) := dk_177 (dk_at dksX6_reads_0 12 rfl rfl)
abbrev cX6_deedOf : ByteArray := prog_11_method_20_code
def yX6_deedOf : MethodName := ⟨RX6, "deedOf", "(II)I"⟩
def dkwX6_deedOf_2 : List UInt8 := [180, 0, 25, 27, 46, 167, 0, 9, 42, 180, 0, 28, 27, 46, 172]
abbrev dktX6_deedOf_2 : List UInt8 := dkwX6_deedOf_2 ++ []
def dkwX6_deedOf_1 : List UInt8 := [167, 0, 37, 28, 5, 160, 0, 12, 42, 180, 0, 22, 27, 46, 167, 0, 23, 28, 6, 160, 0, 12, 42]
abbrev dktX6_deedOf_1 : List UInt8 := dkwX6_deedOf_1 ++ dktX6_deedOf_2
def dkwX6_deedOf_0 : List UInt8 := [28, 154, 0, 12, 42, 180, 0, 16, 27, 46, 167, 0, 51, 28, 4, 160, 0, 12, 42, 180, 0, 19, 27, 46]
abbrev dktX6_deedOf_0 : List UInt8 := dkwX6_deedOf_0 ++ dktX6_deedOf_1
theorem dksX6_deedOf_0 : cX6_deedOf.data.toList.drop 0 = dktX6_deedOf_0 := by decide +kernel
theorem dksX6_deedOf_1 : cX6_deedOf.data.toList.drop 24 = dktX6_deedOf_1 := dk_seg dksX6_deedOf_0 24 rfl rfl
theorem dksX6_deedOf_2 : cX6_deedOf.data.toList.drop 47 = dktX6_deedOf_2 := dk_seg dksX6_deedOf_1 23 rfl rfl
theorem dX6_deedOf_0 : decode cX6_deedOf 0 = .ok (.iload_n 2, 1) := dk_28 (dk_at dksX6_deedOf_0 0 rfl rfl)
theorem dX6_deedOf_1 : decode cX6_deedOf 1 = .ok (.ifCond .ne 12, 3) := dk_154 0 12 (dk_at dksX6_deedOf_0 1 rfl rfl)
theorem dX6_deedOf_4 : decode cX6_deedOf 4 = .ok (.aload_n 0, 1) := dk_42 (dk_at dksX6_deedOf_0 4 rfl rfl)
theorem dX6_deedOf_5 : decode cX6_deedOf 5 = .ok (.getfield 16, 3) := dk_180 0 16 (dk_at dksX6_deedOf_0 5 rfl rfl)
theorem dX6_deedOf_8 : decode cX6_deedOf 8 = .ok (.iload_n 1, 1) := dk_27 (dk_at dksX6_deedOf_0 8 rfl rfl)
theorem dX6_deedOf_9 : decode cX6_deedOf 9 = .ok (.iaload, 1) := dk_46 (dk_at dksX6_deedOf_0 9 rfl rfl)
theorem dX6_deedOf_10 : decode cX6_deedOf 10 = .ok (.goto 51, 3) := dk_167 0 51 (dk_at dksX6_deedOf_0 10 rfl rfl)
theorem dX6_deedOf_13 : decode cX6_deedOf 13 = .ok (.iload_n 2, 1) := dk_28 (dk_at dksX6_deedOf_0 13 rfl rfl)
theorem dX6_deedOf_14 : decode cX6_deedOf 14 = .ok (.iconst 1, 1) := dk_4 (dk_at dksX6_deedOf_0 14 rfl rfl)
theorem dX6_deedOf_15 : decode cX6_deedOf 15 = .ok (.if_icmp .ne 12, 3) := dk_160 0 12 (dk_at dksX6_deedOf_0 15 rfl rfl)
theorem dX6_deedOf_18 : decode cX6_deedOf 18 = .ok (.aload_n 0, 1) := dk_42 (dk_at dksX6_deedOf_0 18 rfl rfl)
theorem dX6_deedOf_19 : decode cX6_deedOf 19 = .ok (.getfield 19, 3) := dk_180 0 19 (dk_at dksX6_deedOf_0 19 rfl rfl)
theorem dX6_deedOf_22 : decode cX6_deedOf 22 = .ok (.iload_n 1, 1) := dk_27 (dk_at dksX6_deedOf_0 22 rfl rfl)
theorem dX6_deedOf_23 : decode cX6_deedOf 23 = .ok (.iaload, 1) := dk_46 (dk_at dksX6_deedOf_0 23 rfl rfl)
theorem dX6_deedOf_24 : decode cX6_deedOf 24 = .ok (.goto 37, 3) := dk_167 0 37 (dk_at dksX6_deedOf_1 0 rfl rfl)
theorem dX6_deedOf_27 : decode cX6_deedOf 27 = .ok (.iload_n 2, 1) := dk_28 (dk_at dksX6_deedOf_1 3 rfl rfl)
theorem dX6_deedOf_28 : decode cX6_deedOf 28 = .ok (.iconst 2, 1) := dk_5 (dk_at dksX6_deedOf_1 4 rfl rfl)
theorem dX6_deedOf_29 : decode cX6_deedOf 29 = .ok (.if_icmp .ne 12, 3) := dk_160 0 12 (dk_at dksX6_deedOf_1 5 rfl rfl)
theorem dX6_deedOf_32 : decode cX6_deedOf 32 = .ok (.aload_n 0, 1) := dk_42 (dk_at dksX6_deedOf_1 8 rfl rfl)
theorem dX6_deedOf_33 : decode cX6_deedOf 33 = .ok (.getfield 22, 3) := dk_180 0 22 (dk_at dksX6_deedOf_1 9 rfl rfl)
theorem dX6_deedOf_36 : decode cX6_deedOf 36 = .ok (.iload_n 1, 1) := dk_27 (dk_at dksX6_deedOf_1 12 rfl rfl)
theorem dX6_deedOf_37 : decode cX6_deedOf 37 = .ok (.iaload, 1) := dk_46 (dk_at dksX6_deedOf_1 13 rfl rfl)
theorem dX6_deedOf_38 : decode cX6_deedOf 38 = .ok (.goto 23, 3) := dk_167 0 23 (dk_at dksX6_deedOf_1 14 rfl rfl)
theorem dX6_deedOf_41 : decode cX6_deedOf 41 = .ok (.iload_n 2, 1) := dk_28 (dk_at dksX6_deedOf_1 17 rfl rfl)
theorem dX6_deedOf_42 : decode cX6_deedOf 42 = .ok (.iconst 3, 1) := dk_6 (dk_at dksX6_deedOf_1 18 rfl rfl)
theorem dX6_deedOf_43 : decode cX6_deedOf 43 = .ok (.if_icmp .ne 12, 3) := dk_160 0 12 (dk_at dksX6_deedOf_1 19 rfl rfl)
theorem dX6_deedOf_46 : decode cX6_deedOf 46 = .ok (.aload_n 0, 1) := dk_42 (dk_at dksX6_deedOf_1 22 rfl rfl)
theorem dX6_deedOf_47 : decode cX6_deedOf 47 = .ok (.getfield 25, 3) := dk_180 0 25 (dk_at dksX6_deedOf_2 0 rfl rfl)
theorem dX6_deedOf_50 : decode cX6_deedOf 50 = .ok (.iload_n 1, 1) := dk_27 (dk_at dksX6_deedOf_2 3 rfl rfl)
theorem dX6_deedOf_51 : decode cX6_deedOf 51 = .ok (.iaload, 1) := dk_46 (dk_at dksX6_deedOf_2 4 rfl rfl)
theorem dX6_deedOf_52 : decode cX6_deedOf 52 = .ok (.goto 9, 3) := dk_167 0 9 (dk_at dksX6_deedOf_2 5 rfl rfl)
theorem dX6_deedOf_55 : decode cX6_deedOf 55 = .ok (.aload_n 0, 1) := dk_42 (dk_at dksX6_deedOf_2 8 rfl rfl)
theorem dX6_deedOf_56 : decode cX6_deedOf 56 = .ok (.getfield 28, 3) := dk_180 0 28 (dk_at dksX6_deedOf_2 9 rfl rfl)
theorem dX6_deedOf_59 : decode cX6_deedOf 59 = .ok (.iload_n 1, 1) := dk_27 (dk_at dksX6_deedOf_2 12 rfl rfl)
theorem dX6_deedOf_60 : decode cX6_deedOf 60 = .ok (.iaload, 1) := dk_46 (dk_at dksX6_deedOf_2 13 rfl rfl)
theorem dX6_deedOf_61 : decode cX6_deedOf 61 = .ok (.ireturn, 1) := dk_172 (dk_at dksX6_deedOf_2 14 rfl rfl)
abbrev cX6_rule : ByteArray := prog_11_method_23_code
def yX6_rule : MethodName := ⟨RX6, "rule", "(II)I"⟩
def dkwX6_rule_1 : List UInt8 := [167, 0, 5, 16, 254, 172]
abbrev dktX6_rule_1 : List UInt8 := dkwX6_rule_1 ++ []
def dkwX6_rule_0 : List UInt8 := [27, 3, 6, 184, 0, 103, 153, 0, 21, 28, 3, 5, 184, 0, 103, 153, 0, 12, 42, 27, 28, 182, 0, 149]
abbrev dktX6_rule_0 : List UInt8 := dkwX6_rule_0 ++ dktX6_rule_1
theorem dksX6_rule_0 : cX6_rule.data.toList.drop 0 = dktX6_rule_0 := by decide +kernel
theorem dksX6_rule_1 : cX6_rule.data.toList.drop 24 = dktX6_rule_1 := dk_seg dksX6_rule_0 24 rfl rfl
theorem dX6_rule_0 : decode cX6_rule 0 = .ok (.iload_n 1, 1) := dk_27 (dk_at dksX6_rule_0 0 rfl rfl)
theorem dX6_rule_1 : decode cX6_rule 1 = .ok (.iconst 0, 1) := dk_3 (dk_at dksX6_rule_0 1 rfl rfl)
theorem dX6_rule_2 : decode cX6_rule 2 = .ok (.iconst 3, 1) := dk_6 (dk_at dksX6_rule_0 2 rfl rfl)
theorem dX6_rule_3 : decode cX6_rule 3 = .ok (.invokestatic 103, 3) := dk_184 0 103 (dk_at dksX6_rule_0 3 rfl rfl)
theorem dX6_rule_6 : decode cX6_rule 6 = .ok (.ifCond .eq 21, 3) := dk_153 0 21 (dk_at dksX6_rule_0 6 rfl rfl)
theorem dX6_rule_9 : decode cX6_rule 9 = .ok (.iload_n 2, 1) := dk_28 (dk_at dksX6_rule_0 9 rfl rfl)
theorem dX6_rule_10 : decode cX6_rule 10 = .ok (.iconst 0, 1) := dk_3 (dk_at dksX6_rule_0 10 rfl rfl)
theorem dX6_rule_11 : decode cX6_rule 11 = .ok (.iconst 2, 1) := dk_5 (dk_at dksX6_rule_0 11 rfl rfl)
theorem dX6_rule_12 : decode cX6_rule 12 = .ok (.invokestatic 103, 3) := dk_184 0 103 (dk_at dksX6_rule_0 12 rfl rfl)
theorem dX6_rule_15 : decode cX6_rule 15 = .ok (.ifCond .eq 12, 3) := dk_153 0 12 (dk_at dksX6_rule_0 15 rfl rfl)
theorem dX6_rule_18 : decode cX6_rule 18 = .ok (.aload_n 0, 1) := dk_42 (dk_at dksX6_rule_0 18 rfl rfl)
theorem dX6_rule_19 : decode cX6_rule 19 = .ok (.iload_n 1, 1) := dk_27 (dk_at dksX6_rule_0 19 rfl rfl)
theorem dX6_rule_20 : decode cX6_rule 20 = .ok (.iload_n 2, 1) := dk_28 (dk_at dksX6_rule_0 20 rfl rfl)
theorem dX6_rule_21 : decode cX6_rule 21 = .ok (.invokevirtual 149, 3) := dk_182 0 149 (dk_at dksX6_rule_0 21 rfl rfl)
theorem dX6_rule_24 : decode cX6_rule 24 = .ok (.goto 5, 3) := dk_167 0 5 (dk_at dksX6_rule_1 0 rfl rfl)
theorem dX6_rule_27 : decode cX6_rule 27 = .ok (.bipush (-2), 2) := dk_16 254 (dk_at dksX6_rule_1 3 rfl rfl)
theorem dX6_rule_29 : decode cX6_rule 29 = .ok (.ireturn, 1) := dk_172 (dk_at dksX6_rule_1 5 rfl rfl)
abbrev cX6_ruleOf : ByteArray := prog_11_method_22_code
def yX6_ruleOf : MethodName := ⟨RX6, "ruleOf", "(II)I"⟩
def dkwX6_ruleOf_1 : List UInt8 := [180, 0, 34, 27, 46, 167, 0, 9, 42, 180, 0, 37, 27, 46, 172]
abbrev dktX6_ruleOf_1 : List UInt8 := dkwX6_ruleOf_1 ++ []
def dkwX6_ruleOf_0 : List UInt8 := [42, 182, 0, 139, 28, 154, 0, 12, 42, 180, 0, 31, 27, 46, 167, 0, 23, 28, 4, 160, 0, 12, 42]
abbrev dktX6_ruleOf_0 : List UInt8 := dkwX6_ruleOf_0 ++ dktX6_ruleOf_1
theorem dksX6_ruleOf_0 : cX6_ruleOf.data.toList.drop 0 = dktX6_ruleOf_0 := by decide +kernel
theorem dksX6_ruleOf_1 : cX6_ruleOf.data.toList.drop 23 = dktX6_ruleOf_1 := dk_seg dksX6_ruleOf_0 23 rfl rfl
theorem dX6_ruleOf_0 : decode cX6_ruleOf 0 = .ok (.aload_n 0, 1) := dk_42 (dk_at dksX6_ruleOf_0 0 rfl rfl)
theorem dX6_ruleOf_1 : decode cX6_ruleOf 1 = .ok (.invokevirtual 139, 3) := dk_182 0 139 (dk_at dksX6_ruleOf_0 1 rfl rfl)
theorem dX6_ruleOf_4 : decode cX6_ruleOf 4 = .ok (.iload_n 2, 1) := dk_28 (dk_at dksX6_ruleOf_0 4 rfl rfl)
theorem dX6_ruleOf_5 : decode cX6_ruleOf 5 = .ok (.ifCond .ne 12, 3) := dk_154 0 12 (dk_at dksX6_ruleOf_0 5 rfl rfl)
theorem dX6_ruleOf_8 : decode cX6_ruleOf 8 = .ok (.aload_n 0, 1) := dk_42 (dk_at dksX6_ruleOf_0 8 rfl rfl)
theorem dX6_ruleOf_9 : decode cX6_ruleOf 9 = .ok (.getfield 31, 3) := dk_180 0 31 (dk_at dksX6_ruleOf_0 9 rfl rfl)
theorem dX6_ruleOf_12 : decode cX6_ruleOf 12 = .ok (.iload_n 1, 1) := dk_27 (dk_at dksX6_ruleOf_0 12 rfl rfl)
theorem dX6_ruleOf_13 : decode cX6_ruleOf 13 = .ok (.iaload, 1) := dk_46 (dk_at dksX6_ruleOf_0 13 rfl rfl)
theorem dX6_ruleOf_14 : decode cX6_ruleOf 14 = .ok (.goto 23, 3) := dk_167 0 23 (dk_at dksX6_ruleOf_0 14 rfl rfl)
theorem dX6_ruleOf_17 : decode cX6_ruleOf 17 = .ok (.iload_n 2, 1) := dk_28 (dk_at dksX6_ruleOf_0 17 rfl rfl)
theorem dX6_ruleOf_18 : decode cX6_ruleOf 18 = .ok (.iconst 1, 1) := dk_4 (dk_at dksX6_ruleOf_0 18 rfl rfl)
theorem dX6_ruleOf_19 : decode cX6_ruleOf 19 = .ok (.if_icmp .ne 12, 3) := dk_160 0 12 (dk_at dksX6_ruleOf_0 19 rfl rfl)
theorem dX6_ruleOf_22 : decode cX6_ruleOf 22 = .ok (.aload_n 0, 1) := dk_42 (dk_at dksX6_ruleOf_0 22 rfl rfl)
theorem dX6_ruleOf_23 : decode cX6_ruleOf 23 = .ok (.getfield 34, 3) := dk_180 0 34 (dk_at dksX6_ruleOf_1 0 rfl rfl)
theorem dX6_ruleOf_26 : decode cX6_ruleOf 26 = .ok (.iload_n 1, 1) := dk_27 (dk_at dksX6_ruleOf_1 3 rfl rfl)
theorem dX6_ruleOf_27 : decode cX6_ruleOf 27 = .ok (.iaload, 1) := dk_46 (dk_at dksX6_ruleOf_1 4 rfl rfl)
theorem dX6_ruleOf_28 : decode cX6_ruleOf 28 = .ok (.goto 9, 3) := dk_167 0 9 (dk_at dksX6_ruleOf_1 5 rfl rfl)
theorem dX6_ruleOf_31 : decode cX6_ruleOf 31 = .ok (.aload_n 0, 1) := dk_42 (dk_at dksX6_ruleOf_1 8 rfl rfl)
theorem dX6_ruleOf_32 : decode cX6_ruleOf 32 = .ok (.getfield 37, 3) := dk_180 0 37 (dk_at dksX6_ruleOf_1 9 rfl rfl)
theorem dX6_ruleOf_35 : decode cX6_ruleOf 35 = .ok (.iload_n 1, 1) := dk_27 (dk_at dksX6_ruleOf_1 12 rfl rfl)
theorem dX6_ruleOf_36 : decode cX6_ruleOf 36 = .ok (.iaload, 1) := dk_46 (dk_at dksX6_ruleOf_1 13 rfl rfl)
theorem dX6_ruleOf_37 : decode cX6_ruleOf 37 = .ok (.ireturn, 1) := dk_172 (dk_at dksX6_ruleOf_1 14 rfl rfl)
abbrev cX6_person : ByteArray := prog_11_method_26_code
def yX6_person : MethodName := ⟨RX6, "person", "(III)I"⟩
def dkwX6_person_6 : List UInt8 := [180, 0, 46, 27, 29, 79, 167, 0, 10, 42, 180, 0, 49, 27, 29, 79, 21, 4, 172]
abbrev dktX6_person_6 : List UInt8 := dkwX6_person_6 ++ []
def dkwX6_person_5 : List UInt8 := [167, 0, 40, 28, 4, 160, 0, 13, 42, 180, 0, 43, 27, 29, 79, 167, 0, 25, 28, 5, 160, 0, 13, 42]
abbrev dktX6_person_5 : List UInt8 := dkwX6_person_5 ++ dktX6_person_6
def dkwX6_person_4 : List UInt8 := [46, 167, 0, 9, 42, 180, 0, 49, 27, 46, 54, 4, 28, 154, 0, 13, 42, 180, 0, 40, 27, 29, 79]
abbrev dktX6_person_4 : List UInt8 := dkwX6_person_4 ++ dktX6_person_5
def dkwX6_person_3 : List UInt8 := [28, 4, 160, 0, 12, 42, 180, 0, 43, 27, 46, 167, 0, 23, 28, 5, 160, 0, 12, 42, 180, 0, 46, 27]
abbrev dktX6_person_3 : List UInt8 := dkwX6_person_3 ++ dktX6_person_4
def dkwX6_person_2 : List UInt8 := [16, 16, 184, 0, 103, 154, 0, 6, 16, 254, 172, 28, 154, 0, 12, 42, 180, 0, 40, 27, 46, 167, 0, 37]
abbrev dktX6_person_2 : List UInt8 := dkwX6_person_2 ++ dktX6_person_3
def dkwX6_person_1 : List UInt8 := [167, 0, 25, 28, 4, 160, 0, 8, 16, 8, 167, 0, 15, 28, 5, 160, 0, 8, 16, 99, 167, 0, 5]
abbrev dktX6_person_1 : List UInt8 := dkwX6_person_1 ++ dktX6_person_2
def dkwX6_person_0 : List UInt8 := [27, 184, 0, 152, 153, 0, 51, 28, 3, 6, 184, 0, 103, 153, 0, 42, 29, 3, 28, 154, 0, 8, 16, 7]
abbrev dktX6_person_0 : List UInt8 := dkwX6_person_0 ++ dktX6_person_1
theorem dksX6_person_0 : cX6_person.data.toList.drop 0 = dktX6_person_0 := by decide +kernel
theorem dksX6_person_1 : cX6_person.data.toList.drop 24 = dktX6_person_1 := dk_seg dksX6_person_0 24 rfl rfl
theorem dksX6_person_2 : cX6_person.data.toList.drop 47 = dktX6_person_2 := dk_seg dksX6_person_1 23 rfl rfl
theorem dksX6_person_3 : cX6_person.data.toList.drop 71 = dktX6_person_3 := dk_seg dksX6_person_2 24 rfl rfl
theorem dksX6_person_4 : cX6_person.data.toList.drop 95 = dktX6_person_4 := dk_seg dksX6_person_3 24 rfl rfl
theorem dksX6_person_5 : cX6_person.data.toList.drop 118 = dktX6_person_5 := dk_seg dksX6_person_4 23 rfl rfl
theorem dksX6_person_6 : cX6_person.data.toList.drop 142 = dktX6_person_6 := dk_seg dksX6_person_5 24 rfl rfl
theorem dX6_person_0 : decode cX6_person 0 = .ok (.iload_n 1, 1) := dk_27 (dk_at dksX6_person_0 0 rfl rfl)
theorem dX6_person_1 : decode cX6_person 1 = .ok (.invokestatic 152, 3) := dk_184 0 152 (dk_at dksX6_person_0 1 rfl rfl)
theorem dX6_person_4 : decode cX6_person 4 = .ok (.ifCond .eq 51, 3) := dk_153 0 51 (dk_at dksX6_person_0 4 rfl rfl)
theorem dX6_person_7 : decode cX6_person 7 = .ok (.iload_n 2, 1) := dk_28 (dk_at dksX6_person_0 7 rfl rfl)
theorem dX6_person_8 : decode cX6_person 8 = .ok (.iconst 0, 1) := dk_3 (dk_at dksX6_person_0 8 rfl rfl)
theorem dX6_person_9 : decode cX6_person 9 = .ok (.iconst 3, 1) := dk_6 (dk_at dksX6_person_0 9 rfl rfl)
theorem dX6_person_10 : decode cX6_person 10 = .ok (.invokestatic 103, 3) := dk_184 0 103 (dk_at dksX6_person_0 10 rfl rfl)
theorem dX6_person_13 : decode cX6_person 13 = .ok (.ifCond .eq 42, 3) := dk_153 0 42 (dk_at dksX6_person_0 13 rfl rfl)
theorem dX6_person_16 : decode cX6_person 16 = .ok (.iload_n 3, 1) := dk_29 (dk_at dksX6_person_0 16 rfl rfl)
theorem dX6_person_17 : decode cX6_person 17 = .ok (.iconst 0, 1) := dk_3 (dk_at dksX6_person_0 17 rfl rfl)
theorem dX6_person_18 : decode cX6_person 18 = .ok (.iload_n 2, 1) := dk_28 (dk_at dksX6_person_0 18 rfl rfl)
theorem dX6_person_19 : decode cX6_person 19 = .ok (.ifCond .ne 8, 3) := dk_154 0 8 (dk_at dksX6_person_0 19 rfl rfl)
theorem dX6_person_22 : decode cX6_person 22 = .ok (.bipush 7, 2) := dk_16 7 (dk_at dksX6_person_0 22 rfl rfl)
theorem dX6_person_24 : decode cX6_person 24 = .ok (.goto 25, 3) := dk_167 0 25 (dk_at dksX6_person_1 0 rfl rfl)
theorem dX6_person_27 : decode cX6_person 27 = .ok (.iload_n 2, 1) := dk_28 (dk_at dksX6_person_1 3 rfl rfl)
theorem dX6_person_28 : decode cX6_person 28 = .ok (.iconst 1, 1) := dk_4 (dk_at dksX6_person_1 4 rfl rfl)
theorem dX6_person_29 : decode cX6_person 29 = .ok (.if_icmp .ne 8, 3) := dk_160 0 8 (dk_at dksX6_person_1 5 rfl rfl)
theorem dX6_person_32 : decode cX6_person 32 = .ok (.bipush 8, 2) := dk_16 8 (dk_at dksX6_person_1 8 rfl rfl)
theorem dX6_person_34 : decode cX6_person 34 = .ok (.goto 15, 3) := dk_167 0 15 (dk_at dksX6_person_1 10 rfl rfl)
theorem dX6_person_37 : decode cX6_person 37 = .ok (.iload_n 2, 1) := dk_28 (dk_at dksX6_person_1 13 rfl rfl)
theorem dX6_person_38 : decode cX6_person 38 = .ok (.iconst 2, 1) := dk_5 (dk_at dksX6_person_1 14 rfl rfl)
theorem dX6_person_39 : decode cX6_person 39 = .ok (.if_icmp .ne 8, 3) := dk_160 0 8 (dk_at dksX6_person_1 15 rfl rfl)
theorem dX6_person_42 : decode cX6_person 42 = .ok (.bipush 99, 2) := dk_16 99 (dk_at dksX6_person_1 18 rfl rfl)
theorem dX6_person_44 : decode cX6_person 44 = .ok (.goto 5, 3) := dk_167 0 5 (dk_at dksX6_person_1 20 rfl rfl)
theorem dX6_person_47 : decode cX6_person 47 = .ok (.bipush 16, 2) := dk_16 16 (dk_at dksX6_person_2 0 rfl rfl)
theorem dX6_person_49 : decode cX6_person 49 = .ok (.invokestatic 103, 3) := dk_184 0 103 (dk_at dksX6_person_2 2 rfl rfl)
theorem dX6_person_52 : decode cX6_person 52 = .ok (.ifCond .ne 6, 3) := dk_154 0 6 (dk_at dksX6_person_2 5 rfl rfl)
theorem dX6_person_55 : decode cX6_person 55 = .ok (.bipush (-2), 2) := dk_16 254 (dk_at dksX6_person_2 8 rfl rfl)
theorem dX6_person_57 : decode cX6_person 57 = .ok (.ireturn, 1) := dk_172 (dk_at dksX6_person_2 10 rfl rfl)
theorem dX6_person_58 : decode cX6_person 58 = .ok (.iload_n 2, 1) := dk_28 (dk_at dksX6_person_2 11 rfl rfl)
theorem dX6_person_59 : decode cX6_person 59 = .ok (.ifCond .ne 12, 3) := dk_154 0 12 (dk_at dksX6_person_2 12 rfl rfl)
theorem dX6_person_62 : decode cX6_person 62 = .ok (.aload_n 0, 1) := dk_42 (dk_at dksX6_person_2 15 rfl rfl)
theorem dX6_person_63 : decode cX6_person 63 = .ok (.getfield 40, 3) := dk_180 0 40 (dk_at dksX6_person_2 16 rfl rfl)
theorem dX6_person_66 : decode cX6_person 66 = .ok (.iload_n 1, 1) := dk_27 (dk_at dksX6_person_2 19 rfl rfl)
theorem dX6_person_67 : decode cX6_person 67 = .ok (.iaload, 1) := dk_46 (dk_at dksX6_person_2 20 rfl rfl)
theorem dX6_person_68 : decode cX6_person 68 = .ok (.goto 37, 3) := dk_167 0 37 (dk_at dksX6_person_2 21 rfl rfl)
theorem dX6_person_71 : decode cX6_person 71 = .ok (.iload_n 2, 1) := dk_28 (dk_at dksX6_person_3 0 rfl rfl)
theorem dX6_person_72 : decode cX6_person 72 = .ok (.iconst 1, 1) := dk_4 (dk_at dksX6_person_3 1 rfl rfl)
theorem dX6_person_73 : decode cX6_person 73 = .ok (.if_icmp .ne 12, 3) := dk_160 0 12 (dk_at dksX6_person_3 2 rfl rfl)
theorem dX6_person_76 : decode cX6_person 76 = .ok (.aload_n 0, 1) := dk_42 (dk_at dksX6_person_3 5 rfl rfl)
theorem dX6_person_77 : decode cX6_person 77 = .ok (.getfield 43, 3) := dk_180 0 43 (dk_at dksX6_person_3 6 rfl rfl)
theorem dX6_person_80 : decode cX6_person 80 = .ok (.iload_n 1, 1) := dk_27 (dk_at dksX6_person_3 9 rfl rfl)
theorem dX6_person_81 : decode cX6_person 81 = .ok (.iaload, 1) := dk_46 (dk_at dksX6_person_3 10 rfl rfl)
theorem dX6_person_82 : decode cX6_person 82 = .ok (.goto 23, 3) := dk_167 0 23 (dk_at dksX6_person_3 11 rfl rfl)
theorem dX6_person_85 : decode cX6_person 85 = .ok (.iload_n 2, 1) := dk_28 (dk_at dksX6_person_3 14 rfl rfl)
theorem dX6_person_86 : decode cX6_person 86 = .ok (.iconst 2, 1) := dk_5 (dk_at dksX6_person_3 15 rfl rfl)
theorem dX6_person_87 : decode cX6_person 87 = .ok (.if_icmp .ne 12, 3) := dk_160 0 12 (dk_at dksX6_person_3 16 rfl rfl)
theorem dX6_person_90 : decode cX6_person 90 = .ok (.aload_n 0, 1) := dk_42 (dk_at dksX6_person_3 19 rfl rfl)
theorem dX6_person_91 : decode cX6_person 91 = .ok (.getfield 46, 3) := dk_180 0 46 (dk_at dksX6_person_3 20 rfl rfl)
theorem dX6_person_94 : decode cX6_person 94 = .ok (.iload_n 1, 1) := dk_27 (dk_at dksX6_person_3 23 rfl rfl)
theorem dX6_person_95 : decode cX6_person 95 = .ok (.iaload, 1) := dk_46 (dk_at dksX6_person_4 0 rfl rfl)
theorem dX6_person_96 : decode cX6_person 96 = .ok (.goto 9, 3) := dk_167 0 9 (dk_at dksX6_person_4 1 rfl rfl)
theorem dX6_person_99 : decode cX6_person 99 = .ok (.aload_n 0, 1) := dk_42 (dk_at dksX6_person_4 4 rfl rfl)
theorem dX6_person_100 : decode cX6_person 100 = .ok (.getfield 49, 3) := dk_180 0 49 (dk_at dksX6_person_4 5 rfl rfl)
theorem dX6_person_103 : decode cX6_person 103 = .ok (.iload_n 1, 1) := dk_27 (dk_at dksX6_person_4 8 rfl rfl)
theorem dX6_person_104 : decode cX6_person 104 = .ok (.iaload, 1) := dk_46 (dk_at dksX6_person_4 9 rfl rfl)
theorem dX6_person_105 : decode cX6_person 105 = .ok (.istore 4, 2) := dk_54 4 (dk_at dksX6_person_4 10 rfl rfl)
theorem dX6_person_107 : decode cX6_person 107 = .ok (.iload_n 2, 1) := dk_28 (dk_at dksX6_person_4 12 rfl rfl)
theorem dX6_person_108 : decode cX6_person 108 = .ok (.ifCond .ne 13, 3) := dk_154 0 13 (dk_at dksX6_person_4 13 rfl rfl)
theorem dX6_person_111 : decode cX6_person 111 = .ok (.aload_n 0, 1) := dk_42 (dk_at dksX6_person_4 16 rfl rfl)
theorem dX6_person_112 : decode cX6_person 112 = .ok (.getfield 40, 3) := dk_180 0 40 (dk_at dksX6_person_4 17 rfl rfl)
theorem dX6_person_115 : decode cX6_person 115 = .ok (.iload_n 1, 1) := dk_27 (dk_at dksX6_person_4 20 rfl rfl)
theorem dX6_person_116 : decode cX6_person 116 = .ok (.iload_n 3, 1) := dk_29 (dk_at dksX6_person_4 21 rfl rfl)
theorem dX6_person_117 : decode cX6_person 117 = .ok (.iastore, 1) := dk_79 (dk_at dksX6_person_4 22 rfl rfl)
theorem dX6_person_118 : decode cX6_person 118 = .ok (.goto 40, 3) := dk_167 0 40 (dk_at dksX6_person_5 0 rfl rfl)
theorem dX6_person_121 : decode cX6_person 121 = .ok (.iload_n 2, 1) := dk_28 (dk_at dksX6_person_5 3 rfl rfl)
theorem dX6_person_122 : decode cX6_person 122 = .ok (.iconst 1, 1) := dk_4 (dk_at dksX6_person_5 4 rfl rfl)
theorem dX6_person_123 : decode cX6_person 123 = .ok (.if_icmp .ne 13, 3) := dk_160 0 13 (dk_at dksX6_person_5 5 rfl rfl)
theorem dX6_person_126 : decode cX6_person 126 = .ok (.aload_n 0, 1) := dk_42 (dk_at dksX6_person_5 8 rfl rfl)
theorem dX6_person_127 : decode cX6_person 127 = .ok (.getfield 43, 3) := dk_180 0 43 (dk_at dksX6_person_5 9 rfl rfl)
theorem dX6_person_130 : decode cX6_person 130 = .ok (.iload_n 1, 1) := dk_27 (dk_at dksX6_person_5 12 rfl rfl)
theorem dX6_person_131 : decode cX6_person 131 = .ok (.iload_n 3, 1) := dk_29 (dk_at dksX6_person_5 13 rfl rfl)
theorem dX6_person_132 : decode cX6_person 132 = .ok (.iastore, 1) := dk_79 (dk_at dksX6_person_5 14 rfl rfl)
theorem dX6_person_133 : decode cX6_person 133 = .ok (.goto 25, 3) := dk_167 0 25 (dk_at dksX6_person_5 15 rfl rfl)
theorem dX6_person_136 : decode cX6_person 136 = .ok (.iload_n 2, 1) := dk_28 (dk_at dksX6_person_5 18 rfl rfl)
theorem dX6_person_137 : decode cX6_person 137 = .ok (.iconst 2, 1) := dk_5 (dk_at dksX6_person_5 19 rfl rfl)
theorem dX6_person_138 : decode cX6_person 138 = .ok (.if_icmp .ne 13, 3) := dk_160 0 13 (dk_at dksX6_person_5 20 rfl rfl)
theorem dX6_person_141 : decode cX6_person 141 = .ok (.aload_n 0, 1) := dk_42 (dk_at dksX6_person_5 23 rfl rfl)
theorem dX6_person_142 : decode cX6_person 142 = .ok (.getfield 46, 3) := dk_180 0 46 (dk_at dksX6_person_6 0 rfl rfl)
theorem dX6_person_145 : decode cX6_person 145 = .ok (.iload_n 1, 1) := dk_27 (dk_at dksX6_person_6 3 rfl rfl)
theorem dX6_person_146 : decode cX6_person 146 = .ok (.iload_n 3, 1) := dk_29 (dk_at dksX6_person_6 4 rfl rfl)
theorem dX6_person_147 : decode cX6_person 147 = .ok (.iastore, 1) := dk_79 (dk_at dksX6_person_6 5 rfl rfl)
theorem dX6_person_148 : decode cX6_person 148 = .ok (.goto 10, 3) := dk_167 0 10 (dk_at dksX6_person_6 6 rfl rfl)
theorem dX6_person_151 : decode cX6_person 151 = .ok (.aload_n 0, 1) := dk_42 (dk_at dksX6_person_6 9 rfl rfl)
theorem dX6_person_152 : decode cX6_person 152 = .ok (.getfield 49, 3) := dk_180 0 49 (dk_at dksX6_person_6 10 rfl rfl)
theorem dX6_person_155 : decode cX6_person 155 = .ok (.iload_n 1, 1) := dk_27 (dk_at dksX6_person_6 13 rfl rfl)
theorem dX6_person_156 : decode cX6_person 156 = .ok (.iload_n 3, 1) := dk_29 (dk_at dksX6_person_6 14 rfl rfl)
theorem dX6_person_157 : decode cX6_person 157 = .ok (.iastore, 1) := dk_79 (dk_at dksX6_person_6 15 rfl rfl)
theorem dX6_person_158 : decode cX6_person 158 = .ok (.iload 4, 2) := dk_21 4 (dk_at dksX6_person_6 16 rfl rfl)
theorem dX6_person_160 : decode cX6_person 160 = .ok (.ireturn, 1) := dk_172 (dk_at dksX6_person_6 18 rfl rfl)
abbrev cX6_isPerson : ByteArray := prog_11_method_24_code
def yX6_isPerson : MethodName := ⟨RX6, "isPerson", "(I)Z"⟩
def dkwX6_isPerson_0 : List UInt8 := [26, 3, 16, 7, 184, 0, 103, 172]
abbrev dktX6_isPerson_0 : List UInt8 := dkwX6_isPerson_0 ++ []
theorem dksX6_isPerson_0 : cX6_isPerson.data.toList.drop 0 = dktX6_isPerson_0 := by decide +kernel
theorem dX6_isPerson_0 : decode cX6_isPerson 0 = .ok (.iload_n 0, 1) := dk_26 (dk_at dksX6_isPerson_0 0 rfl rfl)
theorem dX6_isPerson_1 : decode cX6_isPerson 1 = .ok (.iconst 0, 1) := dk_3 (dk_at dksX6_isPerson_0 1 rfl rfl)
theorem dX6_isPerson_2 : decode cX6_isPerson 2 = .ok (.bipush 7, 2) := dk_16 7 (dk_at dksX6_isPerson_0 2 rfl rfl)
theorem dX6_isPerson_4 : decode cX6_isPerson 4 = .ok (.invokestatic 103, 3) := dk_184 0 103 (dk_at dksX6_isPerson_0 4 rfl rfl)
theorem dX6_isPerson_7 : decode cX6_isPerson 7 = .ok (.ireturn, 1) := dk_172 (dk_at dksX6_isPerson_0 7 rfl rfl)
abbrev cX6_weather : ByteArray := prog_11_method_27_code
def yX6_weather : MethodName := ⟨RX6, "weather", "(II)I"⟩
def dkwX6_weather_1 : List UInt8 := [46, 62, 42, 180, 0, 52, 27, 28, 79, 29, 172]
abbrev dktX6_weather_1 : List UInt8 := dkwX6_weather_1 ++ []
def dkwX6_weather_0 : List UInt8 := [27, 184, 0, 155, 153, 0, 12, 28, 3, 4, 184, 0, 103, 154, 0, 6, 16, 254, 172, 42, 180, 0, 52, 27]
abbrev dktX6_weather_0 : List UInt8 := dkwX6_weather_0 ++ dktX6_weather_1
theorem dksX6_weather_0 : cX6_weather.data.toList.drop 0 = dktX6_weather_0 := by decide +kernel
theorem dksX6_weather_1 : cX6_weather.data.toList.drop 24 = dktX6_weather_1 := dk_seg dksX6_weather_0 24 rfl rfl
theorem dX6_weather_0 : decode cX6_weather 0 = .ok (.iload_n 1, 1) := dk_27 (dk_at dksX6_weather_0 0 rfl rfl)
theorem dX6_weather_1 : decode cX6_weather 1 = .ok (.invokestatic 155, 3) := dk_184 0 155 (dk_at dksX6_weather_0 1 rfl rfl)
theorem dX6_weather_4 : decode cX6_weather 4 = .ok (.ifCond .eq 12, 3) := dk_153 0 12 (dk_at dksX6_weather_0 4 rfl rfl)
theorem dX6_weather_7 : decode cX6_weather 7 = .ok (.iload_n 2, 1) := dk_28 (dk_at dksX6_weather_0 7 rfl rfl)
theorem dX6_weather_8 : decode cX6_weather 8 = .ok (.iconst 0, 1) := dk_3 (dk_at dksX6_weather_0 8 rfl rfl)
theorem dX6_weather_9 : decode cX6_weather 9 = .ok (.iconst 1, 1) := dk_4 (dk_at dksX6_weather_0 9 rfl rfl)
theorem dX6_weather_10 : decode cX6_weather 10 = .ok (.invokestatic 103, 3) := dk_184 0 103 (dk_at dksX6_weather_0 10 rfl rfl)
theorem dX6_weather_13 : decode cX6_weather 13 = .ok (.ifCond .ne 6, 3) := dk_154 0 6 (dk_at dksX6_weather_0 13 rfl rfl)
theorem dX6_weather_16 : decode cX6_weather 16 = .ok (.bipush (-2), 2) := dk_16 254 (dk_at dksX6_weather_0 16 rfl rfl)
theorem dX6_weather_18 : decode cX6_weather 18 = .ok (.ireturn, 1) := dk_172 (dk_at dksX6_weather_0 18 rfl rfl)
theorem dX6_weather_19 : decode cX6_weather 19 = .ok (.aload_n 0, 1) := dk_42 (dk_at dksX6_weather_0 19 rfl rfl)
theorem dX6_weather_20 : decode cX6_weather 20 = .ok (.getfield 52, 3) := dk_180 0 52 (dk_at dksX6_weather_0 20 rfl rfl)
theorem dX6_weather_23 : decode cX6_weather 23 = .ok (.iload_n 1, 1) := dk_27 (dk_at dksX6_weather_0 23 rfl rfl)
theorem dX6_weather_24 : decode cX6_weather 24 = .ok (.iaload, 1) := dk_46 (dk_at dksX6_weather_1 0 rfl rfl)
theorem dX6_weather_25 : decode cX6_weather 25 = .ok (.istore_n 3, 1) := dk_62 (dk_at dksX6_weather_1 1 rfl rfl)
theorem dX6_weather_26 : decode cX6_weather 26 = .ok (.aload_n 0, 1) := dk_42 (dk_at dksX6_weather_1 2 rfl rfl)
theorem dX6_weather_27 : decode cX6_weather 27 = .ok (.getfield 52, 3) := dk_180 0 52 (dk_at dksX6_weather_1 3 rfl rfl)
theorem dX6_weather_30 : decode cX6_weather 30 = .ok (.iload_n 1, 1) := dk_27 (dk_at dksX6_weather_1 6 rfl rfl)
theorem dX6_weather_31 : decode cX6_weather 31 = .ok (.iload_n 2, 1) := dk_28 (dk_at dksX6_weather_1 7 rfl rfl)
theorem dX6_weather_32 : decode cX6_weather 32 = .ok (.iastore, 1) := dk_79 (dk_at dksX6_weather_1 8 rfl rfl)
theorem dX6_weather_33 : decode cX6_weather 33 = .ok (.iload_n 3, 1) := dk_29 (dk_at dksX6_weather_1 9 rfl rfl)
theorem dX6_weather_34 : decode cX6_weather 34 = .ok (.ireturn, 1) := dk_172 (dk_at dksX6_weather_1 10 rfl rfl)
abbrev cX6_isHour : ByteArray := prog_11_method_25_code
def yX6_isHour : MethodName := ⟨RX6, "isHour", "(I)Z"⟩
def dkwX6_isHour_0 : List UInt8 := [26, 3, 16, 7, 184, 0, 103, 172]
abbrev dktX6_isHour_0 : List UInt8 := dkwX6_isHour_0 ++ []
theorem dksX6_isHour_0 : cX6_isHour.data.toList.drop 0 = dktX6_isHour_0 := by decide +kernel
theorem dX6_isHour_0 : decode cX6_isHour 0 = .ok (.iload_n 0, 1) := dk_26 (dk_at dksX6_isHour_0 0 rfl rfl)
theorem dX6_isHour_1 : decode cX6_isHour 1 = .ok (.iconst 0, 1) := dk_3 (dk_at dksX6_isHour_0 1 rfl rfl)
theorem dX6_isHour_2 : decode cX6_isHour 2 = .ok (.bipush 7, 2) := dk_16 7 (dk_at dksX6_isHour_0 2 rfl rfl)
theorem dX6_isHour_4 : decode cX6_isHour 4 = .ok (.invokestatic 103, 3) := dk_184 0 103 (dk_at dksX6_isHour_0 4 rfl rfl)
theorem dX6_isHour_7 : decode cX6_isHour 7 = .ok (.ireturn, 1) := dk_172 (dk_at dksX6_isHour_0 7 rfl rfl)
abbrev cX6_set : ByteArray := prog_11_method_28_code
def yX6_set : MethodName := ⟨RX6, "set", "(II)I"⟩
def dkwX6_set_2 : List UInt8 := [154, 0, 6, 16, 254, 172, 42, 180, 0, 55, 27, 46, 62, 42, 180, 0, 55, 27, 28, 79, 29, 172]
abbrev dktX6_set_2 : List UInt8 := dkwX6_set_2 ++ []
def dkwX6_set_1 : List UInt8 := [160, 0, 7, 4, 167, 0, 16, 27, 5, 160, 0, 9, 17, 3, 231, 167, 0, 5, 16, 10, 184, 0, 103]
abbrev dktX6_set_1 : List UInt8 := dkwX6_set_1 ++ dktX6_set_2
def dkwX6_set_0 : List UInt8 := [27, 3, 6, 184, 0, 103, 153, 0, 42, 28, 3, 27, 154, 0, 8, 16, 99, 167, 0, 25, 27, 4]
abbrev dktX6_set_0 : List UInt8 := dkwX6_set_0 ++ dktX6_set_1
theorem dksX6_set_0 : cX6_set.data.toList.drop 0 = dktX6_set_0 := by decide +kernel
theorem dksX6_set_1 : cX6_set.data.toList.drop 22 = dktX6_set_1 := dk_seg dksX6_set_0 22 rfl rfl
theorem dksX6_set_2 : cX6_set.data.toList.drop 45 = dktX6_set_2 := dk_seg dksX6_set_1 23 rfl rfl
theorem dX6_set_0 : decode cX6_set 0 = .ok (.iload_n 1, 1) := dk_27 (dk_at dksX6_set_0 0 rfl rfl)
theorem dX6_set_1 : decode cX6_set 1 = .ok (.iconst 0, 1) := dk_3 (dk_at dksX6_set_0 1 rfl rfl)
theorem dX6_set_2 : decode cX6_set 2 = .ok (.iconst 3, 1) := dk_6 (dk_at dksX6_set_0 2 rfl rfl)
theorem dX6_set_3 : decode cX6_set 3 = .ok (.invokestatic 103, 3) := dk_184 0 103 (dk_at dksX6_set_0 3 rfl rfl)
theorem dX6_set_6 : decode cX6_set 6 = .ok (.ifCond .eq 42, 3) := dk_153 0 42 (dk_at dksX6_set_0 6 rfl rfl)
theorem dX6_set_9 : decode cX6_set 9 = .ok (.iload_n 2, 1) := dk_28 (dk_at dksX6_set_0 9 rfl rfl)
theorem dX6_set_10 : decode cX6_set 10 = .ok (.iconst 0, 1) := dk_3 (dk_at dksX6_set_0 10 rfl rfl)
theorem dX6_set_11 : decode cX6_set 11 = .ok (.iload_n 1, 1) := dk_27 (dk_at dksX6_set_0 11 rfl rfl)
theorem dX6_set_12 : decode cX6_set 12 = .ok (.ifCond .ne 8, 3) := dk_154 0 8 (dk_at dksX6_set_0 12 rfl rfl)
theorem dX6_set_15 : decode cX6_set 15 = .ok (.bipush 99, 2) := dk_16 99 (dk_at dksX6_set_0 15 rfl rfl)
theorem dX6_set_17 : decode cX6_set 17 = .ok (.goto 25, 3) := dk_167 0 25 (dk_at dksX6_set_0 17 rfl rfl)
theorem dX6_set_20 : decode cX6_set 20 = .ok (.iload_n 1, 1) := dk_27 (dk_at dksX6_set_0 20 rfl rfl)
theorem dX6_set_21 : decode cX6_set 21 = .ok (.iconst 1, 1) := dk_4 (dk_at dksX6_set_0 21 rfl rfl)
theorem dX6_set_22 : decode cX6_set 22 = .ok (.if_icmp .ne 7, 3) := dk_160 0 7 (dk_at dksX6_set_1 0 rfl rfl)
theorem dX6_set_25 : decode cX6_set 25 = .ok (.iconst 1, 1) := dk_4 (dk_at dksX6_set_1 3 rfl rfl)
theorem dX6_set_26 : decode cX6_set 26 = .ok (.goto 16, 3) := dk_167 0 16 (dk_at dksX6_set_1 4 rfl rfl)
theorem dX6_set_29 : decode cX6_set 29 = .ok (.iload_n 1, 1) := dk_27 (dk_at dksX6_set_1 7 rfl rfl)
theorem dX6_set_30 : decode cX6_set 30 = .ok (.iconst 2, 1) := dk_5 (dk_at dksX6_set_1 8 rfl rfl)
theorem dX6_set_31 : decode cX6_set 31 = .ok (.if_icmp .ne 9, 3) := dk_160 0 9 (dk_at dksX6_set_1 9 rfl rfl)
theorem dX6_set_34 : decode cX6_set 34 = .ok (.sipush 999, 3) := dk_17 3 231 (dk_at dksX6_set_1 12 rfl rfl)
theorem dX6_set_37 : decode cX6_set 37 = .ok (.goto 5, 3) := dk_167 0 5 (dk_at dksX6_set_1 15 rfl rfl)
theorem dX6_set_40 : decode cX6_set 40 = .ok (.bipush 10, 2) := dk_16 10 (dk_at dksX6_set_1 18 rfl rfl)
theorem dX6_set_42 : decode cX6_set 42 = .ok (.invokestatic 103, 3) := dk_184 0 103 (dk_at dksX6_set_1 20 rfl rfl)
theorem dX6_set_45 : decode cX6_set 45 = .ok (.ifCond .ne 6, 3) := dk_154 0 6 (dk_at dksX6_set_2 0 rfl rfl)
theorem dX6_set_48 : decode cX6_set 48 = .ok (.bipush (-2), 2) := dk_16 254 (dk_at dksX6_set_2 3 rfl rfl)
theorem dX6_set_50 : decode cX6_set 50 = .ok (.ireturn, 1) := dk_172 (dk_at dksX6_set_2 5 rfl rfl)
theorem dX6_set_51 : decode cX6_set 51 = .ok (.aload_n 0, 1) := dk_42 (dk_at dksX6_set_2 6 rfl rfl)
theorem dX6_set_52 : decode cX6_set 52 = .ok (.getfield 55, 3) := dk_180 0 55 (dk_at dksX6_set_2 7 rfl rfl)
theorem dX6_set_55 : decode cX6_set 55 = .ok (.iload_n 1, 1) := dk_27 (dk_at dksX6_set_2 10 rfl rfl)
theorem dX6_set_56 : decode cX6_set 56 = .ok (.iaload, 1) := dk_46 (dk_at dksX6_set_2 11 rfl rfl)
theorem dX6_set_57 : decode cX6_set 57 = .ok (.istore_n 3, 1) := dk_62 (dk_at dksX6_set_2 12 rfl rfl)
theorem dX6_set_58 : decode cX6_set 58 = .ok (.aload_n 0, 1) := dk_42 (dk_at dksX6_set_2 13 rfl rfl)
theorem dX6_set_59 : decode cX6_set 59 = .ok (.getfield 55, 3) := dk_180 0 55 (dk_at dksX6_set_2 14 rfl rfl)
theorem dX6_set_62 : decode cX6_set 62 = .ok (.iload_n 1, 1) := dk_27 (dk_at dksX6_set_2 17 rfl rfl)
theorem dX6_set_63 : decode cX6_set 63 = .ok (.iload_n 2, 1) := dk_28 (dk_at dksX6_set_2 18 rfl rfl)
theorem dX6_set_64 : decode cX6_set 64 = .ok (.iastore, 1) := dk_79 (dk_at dksX6_set_2 19 rfl rfl)
theorem dX6_set_65 : decode cX6_set 65 = .ok (.iload_n 3, 1) := dk_29 (dk_at dksX6_set_2 20 rfl rfl)
theorem dX6_set_66 : decode cX6_set 66 = .ok (.ireturn, 1) := dk_172 (dk_at dksX6_set_2 21 rfl rfl)
abbrev cX6_read : ByteArray := prog_11_method_29_code
def yX6_read : MethodName := ⟨RX6, "read", "(I)I"⟩
def dkwX6_read_3 : List UInt8 := [16, 60, 27, 104, 28, 96, 46, 79, 132, 2, 1, 167, 255, 201, 28, 172]
abbrev dktX6_read_3 : List UInt8 := dkwX6_read_3 ++ []
def dkwX6_read_2 : List UInt8 := [16, 60, 27, 104, 28, 96, 46, 3, 4, 184, 0, 103, 153, 0, 26, 42, 180, 0, 52, 28, 42, 180, 0, 95]
abbrev dktX6_read_2 : List UInt8 := dkwX6_read_2 ++ dktX6_read_3
def dkwX6_read_1 : List UInt8 := [172, 3, 61, 28, 42, 180, 0, 92, 27, 46, 162, 0, 51, 28, 16, 8, 162, 0, 45, 42, 180, 0, 95]
abbrev dktX6_read_1 : List UInt8 := dkwX6_read_1 ++ dktX6_read_2
def dkwX6_read_0 : List UInt8 := [27, 184, 0, 158, 154, 0, 6, 16, 254, 172, 42, 180, 0, 85, 27, 51, 154, 0, 9, 42, 4, 182, 0, 161]
abbrev dktX6_read_0 : List UInt8 := dkwX6_read_0 ++ dktX6_read_1
theorem dksX6_read_0 : cX6_read.data.toList.drop 0 = dktX6_read_0 := by decide +kernel
theorem dksX6_read_1 : cX6_read.data.toList.drop 24 = dktX6_read_1 := dk_seg dksX6_read_0 24 rfl rfl
theorem dksX6_read_2 : cX6_read.data.toList.drop 47 = dktX6_read_2 := dk_seg dksX6_read_1 23 rfl rfl
theorem dksX6_read_3 : cX6_read.data.toList.drop 71 = dktX6_read_3 := dk_seg dksX6_read_2 24 rfl rfl
theorem dX6_read_0 : decode cX6_read 0 = .ok (.iload_n 1, 1) := dk_27 (dk_at dksX6_read_0 0 rfl rfl)
theorem dX6_read_1 : decode cX6_read 1 = .ok (.invokestatic 158, 3) := dk_184 0 158 (dk_at dksX6_read_0 1 rfl rfl)
theorem dX6_read_4 : decode cX6_read 4 = .ok (.ifCond .ne 6, 3) := dk_154 0 6 (dk_at dksX6_read_0 4 rfl rfl)
theorem dX6_read_7 : decode cX6_read 7 = .ok (.bipush (-2), 2) := dk_16 254 (dk_at dksX6_read_0 7 rfl rfl)
theorem dX6_read_9 : decode cX6_read 9 = .ok (.ireturn, 1) := dk_172 (dk_at dksX6_read_0 9 rfl rfl)
theorem dX6_read_10 : decode cX6_read 10 = .ok (.aload_n 0, 1) := dk_42 (dk_at dksX6_read_0 10 rfl rfl)
theorem dX6_read_11 : decode cX6_read 11 = .ok (.getfield 85, 3) := dk_180 0 85 (dk_at dksX6_read_0 11 rfl rfl)
theorem dX6_read_14 : decode cX6_read 14 = .ok (.iload_n 1, 1) := dk_27 (dk_at dksX6_read_0 14 rfl rfl)
theorem dX6_read_15 : decode cX6_read 15 = .ok (.baload, 1) := dk_51 (dk_at dksX6_read_0 15 rfl rfl)
theorem dX6_read_16 : decode cX6_read 16 = .ok (.ifCond .ne 9, 3) := dk_154 0 9 (dk_at dksX6_read_0 16 rfl rfl)
theorem dX6_read_19 : decode cX6_read 19 = .ok (.aload_n 0, 1) := dk_42 (dk_at dksX6_read_0 19 rfl rfl)
theorem dX6_read_20 : decode cX6_read 20 = .ok (.iconst 1, 1) := dk_4 (dk_at dksX6_read_0 20 rfl rfl)
theorem dX6_read_21 : decode cX6_read 21 = .ok (.invokevirtual 161, 3) := dk_182 0 161 (dk_at dksX6_read_0 21 rfl rfl)
theorem dX6_read_24 : decode cX6_read 24 = .ok (.ireturn, 1) := dk_172 (dk_at dksX6_read_1 0 rfl rfl)
theorem dX6_read_25 : decode cX6_read 25 = .ok (.iconst 0, 1) := dk_3 (dk_at dksX6_read_1 1 rfl rfl)
theorem dX6_read_26 : decode cX6_read 26 = .ok (.istore_n 2, 1) := dk_61 (dk_at dksX6_read_1 2 rfl rfl)
theorem dX6_read_27 : decode cX6_read 27 = .ok (.iload_n 2, 1) := dk_28 (dk_at dksX6_read_1 3 rfl rfl)
theorem dX6_read_28 : decode cX6_read 28 = .ok (.aload_n 0, 1) := dk_42 (dk_at dksX6_read_1 4 rfl rfl)
theorem dX6_read_29 : decode cX6_read 29 = .ok (.getfield 92, 3) := dk_180 0 92 (dk_at dksX6_read_1 5 rfl rfl)
theorem dX6_read_32 : decode cX6_read 32 = .ok (.iload_n 1, 1) := dk_27 (dk_at dksX6_read_1 8 rfl rfl)
theorem dX6_read_33 : decode cX6_read 33 = .ok (.iaload, 1) := dk_46 (dk_at dksX6_read_1 9 rfl rfl)
theorem dX6_read_34 : decode cX6_read 34 = .ok (.if_icmp .ge 51, 3) := dk_162 0 51 (dk_at dksX6_read_1 10 rfl rfl)
theorem dX6_read_37 : decode cX6_read 37 = .ok (.iload_n 2, 1) := dk_28 (dk_at dksX6_read_1 13 rfl rfl)
theorem dX6_read_38 : decode cX6_read 38 = .ok (.bipush 8, 2) := dk_16 8 (dk_at dksX6_read_1 14 rfl rfl)
theorem dX6_read_40 : decode cX6_read 40 = .ok (.if_icmp .ge 45, 3) := dk_162 0 45 (dk_at dksX6_read_1 16 rfl rfl)
theorem dX6_read_43 : decode cX6_read 43 = .ok (.aload_n 0, 1) := dk_42 (dk_at dksX6_read_1 19 rfl rfl)
theorem dX6_read_44 : decode cX6_read 44 = .ok (.getfield 95, 3) := dk_180 0 95 (dk_at dksX6_read_1 20 rfl rfl)
theorem dX6_read_47 : decode cX6_read 47 = .ok (.bipush 60, 2) := dk_16 60 (dk_at dksX6_read_2 0 rfl rfl)
theorem dX6_read_49 : decode cX6_read 49 = .ok (.iload_n 1, 1) := dk_27 (dk_at dksX6_read_2 2 rfl rfl)
theorem dX6_read_50 : decode cX6_read 50 = .ok (.imul, 1) := dk_104 (dk_at dksX6_read_2 3 rfl rfl)
theorem dX6_read_51 : decode cX6_read 51 = .ok (.iload_n 2, 1) := dk_28 (dk_at dksX6_read_2 4 rfl rfl)
theorem dX6_read_52 : decode cX6_read 52 = .ok (.iadd, 1) := dk_96 (dk_at dksX6_read_2 5 rfl rfl)
theorem dX6_read_53 : decode cX6_read 53 = .ok (.iaload, 1) := dk_46 (dk_at dksX6_read_2 6 rfl rfl)
theorem dX6_read_54 : decode cX6_read 54 = .ok (.iconst 0, 1) := dk_3 (dk_at dksX6_read_2 7 rfl rfl)
theorem dX6_read_55 : decode cX6_read 55 = .ok (.iconst 1, 1) := dk_4 (dk_at dksX6_read_2 8 rfl rfl)
theorem dX6_read_56 : decode cX6_read 56 = .ok (.invokestatic 103, 3) := dk_184 0 103 (dk_at dksX6_read_2 9 rfl rfl)
theorem dX6_read_59 : decode cX6_read 59 = .ok (.ifCond .eq 26, 3) := dk_153 0 26 (dk_at dksX6_read_2 12 rfl rfl)
theorem dX6_read_62 : decode cX6_read 62 = .ok (.aload_n 0, 1) := dk_42 (dk_at dksX6_read_2 15 rfl rfl)
theorem dX6_read_63 : decode cX6_read 63 = .ok (.getfield 52, 3) := dk_180 0 52 (dk_at dksX6_read_2 16 rfl rfl)
theorem dX6_read_66 : decode cX6_read 66 = .ok (.iload_n 2, 1) := dk_28 (dk_at dksX6_read_2 19 rfl rfl)
theorem dX6_read_67 : decode cX6_read 67 = .ok (.aload_n 0, 1) := dk_42 (dk_at dksX6_read_2 20 rfl rfl)
theorem dX6_read_68 : decode cX6_read 68 = .ok (.getfield 95, 3) := dk_180 0 95 (dk_at dksX6_read_2 21 rfl rfl)
theorem dX6_read_71 : decode cX6_read 71 = .ok (.bipush 60, 2) := dk_16 60 (dk_at dksX6_read_3 0 rfl rfl)
theorem dX6_read_73 : decode cX6_read 73 = .ok (.iload_n 1, 1) := dk_27 (dk_at dksX6_read_3 2 rfl rfl)
theorem dX6_read_74 : decode cX6_read 74 = .ok (.imul, 1) := dk_104 (dk_at dksX6_read_3 3 rfl rfl)
theorem dX6_read_75 : decode cX6_read 75 = .ok (.iload_n 2, 1) := dk_28 (dk_at dksX6_read_3 4 rfl rfl)
theorem dX6_read_76 : decode cX6_read 76 = .ok (.iadd, 1) := dk_96 (dk_at dksX6_read_3 5 rfl rfl)
theorem dX6_read_77 : decode cX6_read 77 = .ok (.iaload, 1) := dk_46 (dk_at dksX6_read_3 6 rfl rfl)
theorem dX6_read_78 : decode cX6_read 78 = .ok (.iastore, 1) := dk_79 (dk_at dksX6_read_3 7 rfl rfl)
theorem dX6_read_79 : decode cX6_read 79 = .ok (.iinc 2 1, 3) := dk_132 2 1 (dk_at dksX6_read_3 8 rfl rfl)
theorem dX6_read_82 : decode cX6_read 82 = .ok (.goto (-55), 3) := dk_167 255 201 (dk_at dksX6_read_3 11 rfl rfl)
theorem dX6_read_85 : decode cX6_read 85 = .ok (.iload_n 2, 1) := dk_28 (dk_at dksX6_read_3 14 rfl rfl)
theorem dX6_read_86 : decode cX6_read 86 = .ok (.ireturn, 1) := dk_172 (dk_at dksX6_read_3 15 rfl rfl)
abbrev cX6_isSheet : ByteArray := prog_11_method_74_code
def yX6_isSheet : MethodName := ⟨RX6, "isSheet", "(I)Z"⟩
def dkwX6_isSheet_0 : List UInt8 := [26, 3, 6, 184, 0, 103, 172]
abbrev dktX6_isSheet_0 : List UInt8 := dkwX6_isSheet_0 ++ []
theorem dksX6_isSheet_0 : cX6_isSheet.data.toList.drop 0 = dktX6_isSheet_0 := by decide +kernel
theorem dX6_isSheet_0 : decode cX6_isSheet 0 = .ok (.iload_n 0, 1) := dk_26 (dk_at dksX6_isSheet_0 0 rfl rfl)
theorem dX6_isSheet_1 : decode cX6_isSheet 1 = .ok (.iconst 0, 1) := dk_3 (dk_at dksX6_isSheet_0 1 rfl rfl)
theorem dX6_isSheet_2 : decode cX6_isSheet 2 = .ok (.iconst 3, 1) := dk_6 (dk_at dksX6_isSheet_0 2 rfl rfl)
theorem dX6_isSheet_3 : decode cX6_isSheet 3 = .ok (.invokestatic 103, 3) := dk_184 0 103 (dk_at dksX6_isSheet_0 3 rfl rfl)
theorem dX6_isSheet_6 : decode cX6_isSheet 6 = .ok (.ireturn, 1) := dk_172 (dk_at dksX6_isSheet_0 6 rfl rfl)
abbrev cX6_meets : ByteArray := prog_11_method_73_code
def yX6_meets : MethodName := ⟨RX6, "meets", "(I)I"⟩
def dkwX6_meets_0 : List UInt8 := [42, 27, 181, 1, 18, 16, 246, 27, 100, 172]
abbrev dktX6_meets_0 : List UInt8 := dkwX6_meets_0 ++ []
theorem dksX6_meets_0 : cX6_meets.data.toList.drop 0 = dktX6_meets_0 := by decide +kernel
theorem dX6_meets_0 : decode cX6_meets 0 = .ok (.aload_n 0, 1) := dk_42 (dk_at dksX6_meets_0 0 rfl rfl)
theorem dX6_meets_1 : decode cX6_meets 1 = .ok (.iload_n 1, 1) := dk_27 (dk_at dksX6_meets_0 1 rfl rfl)
theorem dX6_meets_2 : decode cX6_meets 2 = .ok (.putfield 274, 3) := dk_181 1 18 (dk_at dksX6_meets_0 2 rfl rfl)
theorem dX6_meets_5 : decode cX6_meets 5 = .ok (.bipush (-10), 2) := dk_16 246 (dk_at dksX6_meets_0 5 rfl rfl)
theorem dX6_meets_7 : decode cX6_meets 7 = .ok (.iload_n 1, 1) := dk_27 (dk_at dksX6_meets_0 7 rfl rfl)
theorem dX6_meets_8 : decode cX6_meets 8 = .ok (.isub, 1) := dk_100 (dk_at dksX6_meets_0 8 rfl rfl)
theorem dX6_meets_9 : decode cX6_meets 9 = .ok (.ireturn, 1) := dk_172 (dk_at dksX6_meets_0 9 rfl rfl)
abbrev cX6_can : ByteArray := prog_11_method_34_code
def yX6_can : MethodName := ⟨RX6, "can", "(II)I"⟩
def dkwX6_can_1 : List UInt8 := [16, 254, 172]
abbrev dktX6_can_1 : List UInt8 := dkwX6_can_1 ++ []
def dkwX6_can_0 : List UInt8 := [42, 27, 182, 0, 142, 153, 0, 19, 28, 184, 0, 155, 153, 0, 12, 42, 27, 28, 182, 0, 176, 167, 0, 5]
abbrev dktX6_can_0 : List UInt8 := dkwX6_can_0 ++ dktX6_can_1
theorem dksX6_can_0 : cX6_can.data.toList.drop 0 = dktX6_can_0 := by decide +kernel
theorem dksX6_can_1 : cX6_can.data.toList.drop 24 = dktX6_can_1 := dk_seg dksX6_can_0 24 rfl rfl
theorem dX6_can_0 : decode cX6_can 0 = .ok (.aload_n 0, 1) := dk_42 (dk_at dksX6_can_0 0 rfl rfl)
theorem dX6_can_1 : decode cX6_can 1 = .ok (.iload_n 1, 1) := dk_27 (dk_at dksX6_can_0 1 rfl rfl)
theorem dX6_can_2 : decode cX6_can 2 = .ok (.invokevirtual 142, 3) := dk_182 0 142 (dk_at dksX6_can_0 2 rfl rfl)
theorem dX6_can_5 : decode cX6_can 5 = .ok (.ifCond .eq 19, 3) := dk_153 0 19 (dk_at dksX6_can_0 5 rfl rfl)
theorem dX6_can_8 : decode cX6_can 8 = .ok (.iload_n 2, 1) := dk_28 (dk_at dksX6_can_0 8 rfl rfl)
theorem dX6_can_9 : decode cX6_can 9 = .ok (.invokestatic 155, 3) := dk_184 0 155 (dk_at dksX6_can_0 9 rfl rfl)
theorem dX6_can_12 : decode cX6_can 12 = .ok (.ifCond .eq 12, 3) := dk_153 0 12 (dk_at dksX6_can_0 12 rfl rfl)
theorem dX6_can_15 : decode cX6_can 15 = .ok (.aload_n 0, 1) := dk_42 (dk_at dksX6_can_0 15 rfl rfl)
theorem dX6_can_16 : decode cX6_can 16 = .ok (.iload_n 1, 1) := dk_27 (dk_at dksX6_can_0 16 rfl rfl)
theorem dX6_can_17 : decode cX6_can 17 = .ok (.iload_n 2, 1) := dk_28 (dk_at dksX6_can_0 17 rfl rfl)
theorem dX6_can_18 : decode cX6_can 18 = .ok (.invokevirtual 176, 3) := dk_182 0 176 (dk_at dksX6_can_0 18 rfl rfl)
theorem dX6_can_21 : decode cX6_can 21 = .ok (.goto 5, 3) := dk_167 0 5 (dk_at dksX6_can_0 21 rfl rfl)
theorem dX6_can_24 : decode cX6_can 24 = .ok (.bipush (-2), 2) := dk_16 254 (dk_at dksX6_can_1 0 rfl rfl)
theorem dX6_can_26 : decode cX6_can 26 = .ok (.ireturn, 1) := dk_172 (dk_at dksX6_can_1 2 rfl rfl)
abbrev cX6_canOf : ByteArray := prog_11_method_33_code
def yX6_canOf : MethodName := ⟨RX6, "canOf", "(II)I"⟩
def dkwX6_canOf_0 : List UInt8 := [42, 27, 28, 182, 0, 173, 16, 253, 160, 0, 7, 3, 167, 0, 4, 4, 172]
abbrev dktX6_canOf_0 : List UInt8 := dkwX6_canOf_0 ++ []
theorem dksX6_canOf_0 : cX6_canOf.data.toList.drop 0 = dktX6_canOf_0 := by decide +kernel
theorem dX6_canOf_0 : decode cX6_canOf 0 = .ok (.aload_n 0, 1) := dk_42 (dk_at dksX6_canOf_0 0 rfl rfl)
theorem dX6_canOf_1 : decode cX6_canOf 1 = .ok (.iload_n 1, 1) := dk_27 (dk_at dksX6_canOf_0 1 rfl rfl)
theorem dX6_canOf_2 : decode cX6_canOf 2 = .ok (.iload_n 2, 1) := dk_28 (dk_at dksX6_canOf_0 2 rfl rfl)
theorem dX6_canOf_3 : decode cX6_canOf 3 = .ok (.invokevirtual 173, 3) := dk_182 0 173 (dk_at dksX6_canOf_0 3 rfl rfl)
theorem dX6_canOf_6 : decode cX6_canOf 6 = .ok (.bipush (-3), 2) := dk_16 253 (dk_at dksX6_canOf_0 6 rfl rfl)
theorem dX6_canOf_8 : decode cX6_canOf 8 = .ok (.if_icmp .ne 7, 3) := dk_160 0 7 (dk_at dksX6_canOf_0 8 rfl rfl)
theorem dX6_canOf_11 : decode cX6_canOf 11 = .ok (.iconst 0, 1) := dk_3 (dk_at dksX6_canOf_0 11 rfl rfl)
theorem dX6_canOf_12 : decode cX6_canOf 12 = .ok (.goto 4, 3) := dk_167 0 4 (dk_at dksX6_canOf_0 12 rfl rfl)
theorem dX6_canOf_15 : decode cX6_canOf 15 = .ok (.iconst 1, 1) := dk_4 (dk_at dksX6_canOf_0 15 rfl rfl)
theorem dX6_canOf_16 : decode cX6_canOf 16 = .ok (.ireturn, 1) := dk_172 (dk_at dksX6_canOf_0 16 rfl rfl)
abbrev cX6_comesOf : ByteArray := prog_11_method_32_code
def yX6_comesOf : MethodName := ⟨RX6, "comesOf", "(II)I"⟩
def dkwX6_comesOf_7 : List UInt8 := [167, 255, 124, 29, 172]
abbrev dktX6_comesOf_7 : List UInt8 := dkwX6_comesOf_7 ++ []
def dkwX6_comesOf_6 : List UInt8 := [167, 255, 157, 21, 5, 2, 160, 0, 6, 16, 253, 172, 29, 4, 21, 5, 120, 128, 62, 132, 4, 255]
abbrev dktX6_comesOf_6 : List UInt8 := dkwX6_comesOf_6 ++ dktX6_comesOf_7
def dkwX6_comesOf_5 : List UInt8 := [42, 180, 0, 46, 21, 5, 46, 162, 0, 8, 21, 6, 167, 0, 5, 21, 5, 54, 5, 132, 6, 1]
abbrev dktX6_comesOf_5 : List UInt8 := dkwX6_comesOf_5 ++ dktX6_comesOf_6
def dkwX6_comesOf_4 : List UInt8 := [167, 0, 4, 3, 54, 7, 21, 7, 153, 0, 31, 21, 5, 2, 159, 0, 20, 42, 180, 0, 46, 21, 6, 46]
abbrev dktX6_comesOf_4 : List UInt8 := dkwX6_comesOf_4 ++ dktX6_comesOf_5
def dkwX6_comesOf_3 : List UInt8 := [180, 0, 40, 21, 6, 46, 28, 163, 0, 18, 28, 42, 180, 0, 43, 21, 6, 46, 162, 0, 7, 4]
abbrev dktX6_comesOf_3 : List UInt8 := dkwX6_comesOf_3 ++ dktX6_comesOf_4
def dkwX6_comesOf_2 : List UInt8 := [42, 180, 0, 28, 27, 46, 21, 6, 184, 0, 119, 153, 0, 38, 29, 21, 6, 184, 0, 119, 154, 0, 29, 42]
abbrev dktX6_comesOf_2 : List UInt8 := dkwX6_comesOf_2 ++ dktX6_comesOf_3
def dkwX6_comesOf_1 : List UInt8 := [27, 182, 0, 170, 54, 4, 21, 4, 158, 0, 133, 2, 54, 5, 3, 54, 6, 21, 6, 16, 8, 162, 0, 98]
abbrev dktX6_comesOf_1 : List UInt8 := dkwX6_comesOf_1 ++ dktX6_comesOf_2
def dkwX6_comesOf_0 : List UInt8 := [42, 27, 28, 182, 0, 167, 153, 0, 15, 42, 180, 0, 55, 4, 46, 154, 0, 6, 16, 253, 172, 3, 62, 42]
abbrev dktX6_comesOf_0 : List UInt8 := dkwX6_comesOf_0 ++ dktX6_comesOf_1
theorem dksX6_comesOf_0 : cX6_comesOf.data.toList.drop 0 = dktX6_comesOf_0 := by decide +kernel
theorem dksX6_comesOf_1 : cX6_comesOf.data.toList.drop 24 = dktX6_comesOf_1 := dk_seg dksX6_comesOf_0 24 rfl rfl
theorem dksX6_comesOf_2 : cX6_comesOf.data.toList.drop 48 = dktX6_comesOf_2 := dk_seg dksX6_comesOf_1 24 rfl rfl
theorem dksX6_comesOf_3 : cX6_comesOf.data.toList.drop 72 = dktX6_comesOf_3 := dk_seg dksX6_comesOf_2 24 rfl rfl
theorem dksX6_comesOf_4 : cX6_comesOf.data.toList.drop 94 = dktX6_comesOf_4 := dk_seg dksX6_comesOf_3 22 rfl rfl
theorem dksX6_comesOf_5 : cX6_comesOf.data.toList.drop 118 = dktX6_comesOf_5 := dk_seg dksX6_comesOf_4 24 rfl rfl
theorem dksX6_comesOf_6 : cX6_comesOf.data.toList.drop 140 = dktX6_comesOf_6 := dk_seg dksX6_comesOf_5 22 rfl rfl
theorem dksX6_comesOf_7 : cX6_comesOf.data.toList.drop 162 = dktX6_comesOf_7 := dk_seg dksX6_comesOf_6 22 rfl rfl
theorem dX6_comesOf_0 : decode cX6_comesOf 0 = .ok (.aload_n 0, 1) := dk_42 (dk_at dksX6_comesOf_0 0 rfl rfl)
theorem dX6_comesOf_1 : decode cX6_comesOf 1 = .ok (.iload_n 1, 1) := dk_27 (dk_at dksX6_comesOf_0 1 rfl rfl)
theorem dX6_comesOf_2 : decode cX6_comesOf 2 = .ok (.iload_n 2, 1) := dk_28 (dk_at dksX6_comesOf_0 2 rfl rfl)
theorem dX6_comesOf_3 : decode cX6_comesOf 3 = .ok (.invokevirtual 167, 3) := dk_182 0 167 (dk_at dksX6_comesOf_0 3 rfl rfl)
theorem dX6_comesOf_6 : decode cX6_comesOf 6 = .ok (.ifCond .eq 15, 3) := dk_153 0 15 (dk_at dksX6_comesOf_0 6 rfl rfl)
theorem dX6_comesOf_9 : decode cX6_comesOf 9 = .ok (.aload_n 0, 1) := dk_42 (dk_at dksX6_comesOf_0 9 rfl rfl)
theorem dX6_comesOf_10 : decode cX6_comesOf 10 = .ok (.getfield 55, 3) := dk_180 0 55 (dk_at dksX6_comesOf_0 10 rfl rfl)
theorem dX6_comesOf_13 : decode cX6_comesOf 13 = .ok (.iconst 1, 1) := dk_4 (dk_at dksX6_comesOf_0 13 rfl rfl)
theorem dX6_comesOf_14 : decode cX6_comesOf 14 = .ok (.iaload, 1) := dk_46 (dk_at dksX6_comesOf_0 14 rfl rfl)
theorem dX6_comesOf_15 : decode cX6_comesOf 15 = .ok (.ifCond .ne 6, 3) := dk_154 0 6 (dk_at dksX6_comesOf_0 15 rfl rfl)
theorem dX6_comesOf_18 : decode cX6_comesOf 18 = .ok (.bipush (-3), 2) := dk_16 253 (dk_at dksX6_comesOf_0 18 rfl rfl)
theorem dX6_comesOf_20 : decode cX6_comesOf 20 = .ok (.ireturn, 1) := dk_172 (dk_at dksX6_comesOf_0 20 rfl rfl)
theorem dX6_comesOf_21 : decode cX6_comesOf 21 = .ok (.iconst 0, 1) := dk_3 (dk_at dksX6_comesOf_0 21 rfl rfl)
theorem dX6_comesOf_22 : decode cX6_comesOf 22 = .ok (.istore_n 3, 1) := dk_62 (dk_at dksX6_comesOf_0 22 rfl rfl)
theorem dX6_comesOf_23 : decode cX6_comesOf 23 = .ok (.aload_n 0, 1) := dk_42 (dk_at dksX6_comesOf_0 23 rfl rfl)
theorem dX6_comesOf_24 : decode cX6_comesOf 24 = .ok (.iload_n 1, 1) := dk_27 (dk_at dksX6_comesOf_1 0 rfl rfl)
theorem dX6_comesOf_25 : decode cX6_comesOf 25 = .ok (.invokevirtual 170, 3) := dk_182 0 170 (dk_at dksX6_comesOf_1 1 rfl rfl)
theorem dX6_comesOf_28 : decode cX6_comesOf 28 = .ok (.istore 4, 2) := dk_54 4 (dk_at dksX6_comesOf_1 4 rfl rfl)
theorem dX6_comesOf_30 : decode cX6_comesOf 30 = .ok (.iload 4, 2) := dk_21 4 (dk_at dksX6_comesOf_1 6 rfl rfl)
theorem dX6_comesOf_32 : decode cX6_comesOf 32 = .ok (.ifCond .le 133, 3) := dk_158 0 133 (dk_at dksX6_comesOf_1 8 rfl rfl)
theorem dX6_comesOf_35 : decode cX6_comesOf 35 = .ok (.iconst (-1), 1) := dk_2 (dk_at dksX6_comesOf_1 11 rfl rfl)
theorem dX6_comesOf_36 : decode cX6_comesOf 36 = .ok (.istore 5, 2) := dk_54 5 (dk_at dksX6_comesOf_1 12 rfl rfl)
theorem dX6_comesOf_38 : decode cX6_comesOf 38 = .ok (.iconst 0, 1) := dk_3 (dk_at dksX6_comesOf_1 14 rfl rfl)
theorem dX6_comesOf_39 : decode cX6_comesOf 39 = .ok (.istore 6, 2) := dk_54 6 (dk_at dksX6_comesOf_1 15 rfl rfl)
theorem dX6_comesOf_41 : decode cX6_comesOf 41 = .ok (.iload 6, 2) := dk_21 6 (dk_at dksX6_comesOf_1 17 rfl rfl)
theorem dX6_comesOf_43 : decode cX6_comesOf 43 = .ok (.bipush 8, 2) := dk_16 8 (dk_at dksX6_comesOf_1 19 rfl rfl)
theorem dX6_comesOf_45 : decode cX6_comesOf 45 = .ok (.if_icmp .ge 98, 3) := dk_162 0 98 (dk_at dksX6_comesOf_1 21 rfl rfl)
theorem dX6_comesOf_48 : decode cX6_comesOf 48 = .ok (.aload_n 0, 1) := dk_42 (dk_at dksX6_comesOf_2 0 rfl rfl)
theorem dX6_comesOf_49 : decode cX6_comesOf 49 = .ok (.getfield 28, 3) := dk_180 0 28 (dk_at dksX6_comesOf_2 1 rfl rfl)
theorem dX6_comesOf_52 : decode cX6_comesOf 52 = .ok (.iload_n 1, 1) := dk_27 (dk_at dksX6_comesOf_2 4 rfl rfl)
theorem dX6_comesOf_53 : decode cX6_comesOf 53 = .ok (.iaload, 1) := dk_46 (dk_at dksX6_comesOf_2 5 rfl rfl)
theorem dX6_comesOf_54 : decode cX6_comesOf 54 = .ok (.iload 6, 2) := dk_21 6 (dk_at dksX6_comesOf_2 6 rfl rfl)
theorem dX6_comesOf_56 : decode cX6_comesOf 56 = .ok (.invokestatic 119, 3) := dk_184 0 119 (dk_at dksX6_comesOf_2 8 rfl rfl)
theorem dX6_comesOf_59 : decode cX6_comesOf 59 = .ok (.ifCond .eq 38, 3) := dk_153 0 38 (dk_at dksX6_comesOf_2 11 rfl rfl)
theorem dX6_comesOf_62 : decode cX6_comesOf 62 = .ok (.iload_n 3, 1) := dk_29 (dk_at dksX6_comesOf_2 14 rfl rfl)
theorem dX6_comesOf_63 : decode cX6_comesOf 63 = .ok (.iload 6, 2) := dk_21 6 (dk_at dksX6_comesOf_2 15 rfl rfl)
theorem dX6_comesOf_65 : decode cX6_comesOf 65 = .ok (.invokestatic 119, 3) := dk_184 0 119 (dk_at dksX6_comesOf_2 17 rfl rfl)
theorem dX6_comesOf_68 : decode cX6_comesOf 68 = .ok (.ifCond .ne 29, 3) := dk_154 0 29 (dk_at dksX6_comesOf_2 20 rfl rfl)
theorem dX6_comesOf_71 : decode cX6_comesOf 71 = .ok (.aload_n 0, 1) := dk_42 (dk_at dksX6_comesOf_2 23 rfl rfl)
theorem dX6_comesOf_72 : decode cX6_comesOf 72 = .ok (.getfield 40, 3) := dk_180 0 40 (dk_at dksX6_comesOf_3 0 rfl rfl)
theorem dX6_comesOf_75 : decode cX6_comesOf 75 = .ok (.iload 6, 2) := dk_21 6 (dk_at dksX6_comesOf_3 3 rfl rfl)
theorem dX6_comesOf_77 : decode cX6_comesOf 77 = .ok (.iaload, 1) := dk_46 (dk_at dksX6_comesOf_3 5 rfl rfl)
theorem dX6_comesOf_78 : decode cX6_comesOf 78 = .ok (.iload_n 2, 1) := dk_28 (dk_at dksX6_comesOf_3 6 rfl rfl)
theorem dX6_comesOf_79 : decode cX6_comesOf 79 = .ok (.if_icmp .gt 18, 3) := dk_163 0 18 (dk_at dksX6_comesOf_3 7 rfl rfl)
theorem dX6_comesOf_82 : decode cX6_comesOf 82 = .ok (.iload_n 2, 1) := dk_28 (dk_at dksX6_comesOf_3 10 rfl rfl)
theorem dX6_comesOf_83 : decode cX6_comesOf 83 = .ok (.aload_n 0, 1) := dk_42 (dk_at dksX6_comesOf_3 11 rfl rfl)
theorem dX6_comesOf_84 : decode cX6_comesOf 84 = .ok (.getfield 43, 3) := dk_180 0 43 (dk_at dksX6_comesOf_3 12 rfl rfl)
theorem dX6_comesOf_87 : decode cX6_comesOf 87 = .ok (.iload 6, 2) := dk_21 6 (dk_at dksX6_comesOf_3 15 rfl rfl)
theorem dX6_comesOf_89 : decode cX6_comesOf 89 = .ok (.iaload, 1) := dk_46 (dk_at dksX6_comesOf_3 17 rfl rfl)
theorem dX6_comesOf_90 : decode cX6_comesOf 90 = .ok (.if_icmp .ge 7, 3) := dk_162 0 7 (dk_at dksX6_comesOf_3 18 rfl rfl)
theorem dX6_comesOf_93 : decode cX6_comesOf 93 = .ok (.iconst 1, 1) := dk_4 (dk_at dksX6_comesOf_3 21 rfl rfl)
theorem dX6_comesOf_94 : decode cX6_comesOf 94 = .ok (.goto 4, 3) := dk_167 0 4 (dk_at dksX6_comesOf_4 0 rfl rfl)
theorem dX6_comesOf_97 : decode cX6_comesOf 97 = .ok (.iconst 0, 1) := dk_3 (dk_at dksX6_comesOf_4 3 rfl rfl)
theorem dX6_comesOf_98 : decode cX6_comesOf 98 = .ok (.istore 7, 2) := dk_54 7 (dk_at dksX6_comesOf_4 4 rfl rfl)
theorem dX6_comesOf_100 : decode cX6_comesOf 100 = .ok (.iload 7, 2) := dk_21 7 (dk_at dksX6_comesOf_4 6 rfl rfl)
theorem dX6_comesOf_102 : decode cX6_comesOf 102 = .ok (.ifCond .eq 31, 3) := dk_153 0 31 (dk_at dksX6_comesOf_4 8 rfl rfl)
theorem dX6_comesOf_105 : decode cX6_comesOf 105 = .ok (.iload 5, 2) := dk_21 5 (dk_at dksX6_comesOf_4 11 rfl rfl)
theorem dX6_comesOf_107 : decode cX6_comesOf 107 = .ok (.iconst (-1), 1) := dk_2 (dk_at dksX6_comesOf_4 13 rfl rfl)
theorem dX6_comesOf_108 : decode cX6_comesOf 108 = .ok (.if_icmp .eq 20, 3) := dk_159 0 20 (dk_at dksX6_comesOf_4 14 rfl rfl)
theorem dX6_comesOf_111 : decode cX6_comesOf 111 = .ok (.aload_n 0, 1) := dk_42 (dk_at dksX6_comesOf_4 17 rfl rfl)
theorem dX6_comesOf_112 : decode cX6_comesOf 112 = .ok (.getfield 46, 3) := dk_180 0 46 (dk_at dksX6_comesOf_4 18 rfl rfl)
theorem dX6_comesOf_115 : decode cX6_comesOf 115 = .ok (.iload 6, 2) := dk_21 6 (dk_at dksX6_comesOf_4 21 rfl rfl)
theorem dX6_comesOf_117 : decode cX6_comesOf 117 = .ok (.iaload, 1) := dk_46 (dk_at dksX6_comesOf_4 23 rfl rfl)
theorem dX6_comesOf_118 : decode cX6_comesOf 118 = .ok (.aload_n 0, 1) := dk_42 (dk_at dksX6_comesOf_5 0 rfl rfl)
theorem dX6_comesOf_119 : decode cX6_comesOf 119 = .ok (.getfield 46, 3) := dk_180 0 46 (dk_at dksX6_comesOf_5 1 rfl rfl)
theorem dX6_comesOf_122 : decode cX6_comesOf 122 = .ok (.iload 5, 2) := dk_21 5 (dk_at dksX6_comesOf_5 4 rfl rfl)
theorem dX6_comesOf_124 : decode cX6_comesOf 124 = .ok (.iaload, 1) := dk_46 (dk_at dksX6_comesOf_5 6 rfl rfl)
theorem dX6_comesOf_125 : decode cX6_comesOf 125 = .ok (.if_icmp .ge 8, 3) := dk_162 0 8 (dk_at dksX6_comesOf_5 7 rfl rfl)
theorem dX6_comesOf_128 : decode cX6_comesOf 128 = .ok (.iload 6, 2) := dk_21 6 (dk_at dksX6_comesOf_5 10 rfl rfl)
theorem dX6_comesOf_130 : decode cX6_comesOf 130 = .ok (.goto 5, 3) := dk_167 0 5 (dk_at dksX6_comesOf_5 12 rfl rfl)
theorem dX6_comesOf_133 : decode cX6_comesOf 133 = .ok (.iload 5, 2) := dk_21 5 (dk_at dksX6_comesOf_5 15 rfl rfl)
theorem dX6_comesOf_135 : decode cX6_comesOf 135 = .ok (.istore 5, 2) := dk_54 5 (dk_at dksX6_comesOf_5 17 rfl rfl)
theorem dX6_comesOf_137 : decode cX6_comesOf 137 = .ok (.iinc 6 1, 3) := dk_132 6 1 (dk_at dksX6_comesOf_5 19 rfl rfl)
theorem dX6_comesOf_140 : decode cX6_comesOf 140 = .ok (.goto (-99), 3) := dk_167 255 157 (dk_at dksX6_comesOf_6 0 rfl rfl)
theorem dX6_comesOf_143 : decode cX6_comesOf 143 = .ok (.iload 5, 2) := dk_21 5 (dk_at dksX6_comesOf_6 3 rfl rfl)
theorem dX6_comesOf_145 : decode cX6_comesOf 145 = .ok (.iconst (-1), 1) := dk_2 (dk_at dksX6_comesOf_6 5 rfl rfl)
theorem dX6_comesOf_146 : decode cX6_comesOf 146 = .ok (.if_icmp .ne 6, 3) := dk_160 0 6 (dk_at dksX6_comesOf_6 6 rfl rfl)
theorem dX6_comesOf_149 : decode cX6_comesOf 149 = .ok (.bipush (-3), 2) := dk_16 253 (dk_at dksX6_comesOf_6 9 rfl rfl)
theorem dX6_comesOf_151 : decode cX6_comesOf 151 = .ok (.ireturn, 1) := dk_172 (dk_at dksX6_comesOf_6 11 rfl rfl)
theorem dX6_comesOf_152 : decode cX6_comesOf 152 = .ok (.iload_n 3, 1) := dk_29 (dk_at dksX6_comesOf_6 12 rfl rfl)
theorem dX6_comesOf_153 : decode cX6_comesOf 153 = .ok (.iconst 1, 1) := dk_4 (dk_at dksX6_comesOf_6 13 rfl rfl)
theorem dX6_comesOf_154 : decode cX6_comesOf 154 = .ok (.iload 5, 2) := dk_21 5 (dk_at dksX6_comesOf_6 14 rfl rfl)
theorem dX6_comesOf_156 : decode cX6_comesOf 156 = .ok (.ishl, 1) := dk_120 (dk_at dksX6_comesOf_6 16 rfl rfl)
theorem dX6_comesOf_157 : decode cX6_comesOf 157 = .ok (.ior, 1) := dk_128 (dk_at dksX6_comesOf_6 17 rfl rfl)
theorem dX6_comesOf_158 : decode cX6_comesOf 158 = .ok (.istore_n 3, 1) := dk_62 (dk_at dksX6_comesOf_6 18 rfl rfl)
theorem dX6_comesOf_159 : decode cX6_comesOf 159 = .ok (.iinc 4 (-1), 3) := dk_132 4 255 (dk_at dksX6_comesOf_6 19 rfl rfl)
theorem dX6_comesOf_162 : decode cX6_comesOf 162 = .ok (.goto (-132), 3) := dk_167 255 124 (dk_at dksX6_comesOf_7 0 rfl rfl)
theorem dX6_comesOf_165 : decode cX6_comesOf 165 = .ok (.iload_n 3, 1) := dk_29 (dk_at dksX6_comesOf_7 3 rfl rfl)
theorem dX6_comesOf_166 : decode cX6_comesOf 166 = .ok (.ireturn, 1) := dk_172 (dk_at dksX6_comesOf_7 4 rfl rfl)
abbrev cX6_isTurned : ByteArray := prog_11_method_31_code
def yX6_isTurned : MethodName := ⟨RX6, "isTurned", "(II)Z"⟩
def dkwX6_isTurned_1 : List UInt8 := [180, 0, 22, 27, 46, 159, 0, 7, 4, 167, 0, 4, 3, 172]
abbrev dktX6_isTurned_1 : List UInt8 := dkwX6_isTurned_1 ++ []
def dkwX6_isTurned_0 : List UInt8 := [42, 180, 0, 34, 42, 180, 0, 16, 27, 46, 46, 4, 160, 0, 22, 42, 180, 0, 52, 28, 46, 42]
abbrev dktX6_isTurned_0 : List UInt8 := dkwX6_isTurned_0 ++ dktX6_isTurned_1
theorem dksX6_isTurned_0 : cX6_isTurned.data.toList.drop 0 = dktX6_isTurned_0 := by decide +kernel
theorem dksX6_isTurned_1 : cX6_isTurned.data.toList.drop 22 = dktX6_isTurned_1 := dk_seg dksX6_isTurned_0 22 rfl rfl
theorem dX6_isTurned_0 : decode cX6_isTurned 0 = .ok (.aload_n 0, 1) := dk_42 (dk_at dksX6_isTurned_0 0 rfl rfl)
theorem dX6_isTurned_1 : decode cX6_isTurned 1 = .ok (.getfield 34, 3) := dk_180 0 34 (dk_at dksX6_isTurned_0 1 rfl rfl)
theorem dX6_isTurned_4 : decode cX6_isTurned 4 = .ok (.aload_n 0, 1) := dk_42 (dk_at dksX6_isTurned_0 4 rfl rfl)
theorem dX6_isTurned_5 : decode cX6_isTurned 5 = .ok (.getfield 16, 3) := dk_180 0 16 (dk_at dksX6_isTurned_0 5 rfl rfl)
theorem dX6_isTurned_8 : decode cX6_isTurned 8 = .ok (.iload_n 1, 1) := dk_27 (dk_at dksX6_isTurned_0 8 rfl rfl)
theorem dX6_isTurned_9 : decode cX6_isTurned 9 = .ok (.iaload, 1) := dk_46 (dk_at dksX6_isTurned_0 9 rfl rfl)
theorem dX6_isTurned_10 : decode cX6_isTurned 10 = .ok (.iaload, 1) := dk_46 (dk_at dksX6_isTurned_0 10 rfl rfl)
theorem dX6_isTurned_11 : decode cX6_isTurned 11 = .ok (.iconst 1, 1) := dk_4 (dk_at dksX6_isTurned_0 11 rfl rfl)
theorem dX6_isTurned_12 : decode cX6_isTurned 12 = .ok (.if_icmp .ne 22, 3) := dk_160 0 22 (dk_at dksX6_isTurned_0 12 rfl rfl)
theorem dX6_isTurned_15 : decode cX6_isTurned 15 = .ok (.aload_n 0, 1) := dk_42 (dk_at dksX6_isTurned_0 15 rfl rfl)
theorem dX6_isTurned_16 : decode cX6_isTurned 16 = .ok (.getfield 52, 3) := dk_180 0 52 (dk_at dksX6_isTurned_0 16 rfl rfl)
theorem dX6_isTurned_19 : decode cX6_isTurned 19 = .ok (.iload_n 2, 1) := dk_28 (dk_at dksX6_isTurned_0 19 rfl rfl)
theorem dX6_isTurned_20 : decode cX6_isTurned 20 = .ok (.iaload, 1) := dk_46 (dk_at dksX6_isTurned_0 20 rfl rfl)
theorem dX6_isTurned_21 : decode cX6_isTurned 21 = .ok (.aload_n 0, 1) := dk_42 (dk_at dksX6_isTurned_0 21 rfl rfl)
theorem dX6_isTurned_22 : decode cX6_isTurned 22 = .ok (.getfield 22, 3) := dk_180 0 22 (dk_at dksX6_isTurned_1 0 rfl rfl)
theorem dX6_isTurned_25 : decode cX6_isTurned 25 = .ok (.iload_n 1, 1) := dk_27 (dk_at dksX6_isTurned_1 3 rfl rfl)
theorem dX6_isTurned_26 : decode cX6_isTurned 26 = .ok (.iaload, 1) := dk_46 (dk_at dksX6_isTurned_1 4 rfl rfl)
theorem dX6_isTurned_27 : decode cX6_isTurned 27 = .ok (.if_icmp .eq 7, 3) := dk_159 0 7 (dk_at dksX6_isTurned_1 5 rfl rfl)
theorem dX6_isTurned_30 : decode cX6_isTurned 30 = .ok (.iconst 1, 1) := dk_4 (dk_at dksX6_isTurned_1 8 rfl rfl)
theorem dX6_isTurned_31 : decode cX6_isTurned 31 = .ok (.goto 4, 3) := dk_167 0 4 (dk_at dksX6_isTurned_1 9 rfl rfl)
theorem dX6_isTurned_34 : decode cX6_isTurned 34 = .ok (.iconst 0, 1) := dk_3 (dk_at dksX6_isTurned_1 12 rfl rfl)
theorem dX6_isTurned_35 : decode cX6_isTurned 35 = .ok (.ireturn, 1) := dk_172 (dk_at dksX6_isTurned_1 13 rfl rfl)
abbrev cX6_needs : ByteArray := prog_11_method_30_code
def yX6_needs : MethodName := ⟨RX6, "needs", "(I)I"⟩
def dkwX6_needs_1 : List UInt8 := [162, 0, 17, 42, 180, 0, 31, 42, 180, 0, 16, 27, 46, 46, 167, 0, 4, 28, 172]
abbrev dktX6_needs_1 : List UInt8 := dkwX6_needs_1 ++ []
def dkwX6_needs_0 : List UInt8 := [42, 180, 0, 28, 27, 46, 184, 0, 164, 61, 42, 180, 0, 31, 42, 180, 0, 16, 27, 46, 46, 28]
abbrev dktX6_needs_0 : List UInt8 := dkwX6_needs_0 ++ dktX6_needs_1
theorem dksX6_needs_0 : cX6_needs.data.toList.drop 0 = dktX6_needs_0 := by decide +kernel
theorem dksX6_needs_1 : cX6_needs.data.toList.drop 22 = dktX6_needs_1 := dk_seg dksX6_needs_0 22 rfl rfl
theorem dX6_needs_0 : decode cX6_needs 0 = .ok (.aload_n 0, 1) := dk_42 (dk_at dksX6_needs_0 0 rfl rfl)
theorem dX6_needs_1 : decode cX6_needs 1 = .ok (.getfield 28, 3) := dk_180 0 28 (dk_at dksX6_needs_0 1 rfl rfl)
theorem dX6_needs_4 : decode cX6_needs 4 = .ok (.iload_n 1, 1) := dk_27 (dk_at dksX6_needs_0 4 rfl rfl)
theorem dX6_needs_5 : decode cX6_needs 5 = .ok (.iaload, 1) := dk_46 (dk_at dksX6_needs_0 5 rfl rfl)
theorem dX6_needs_6 : decode cX6_needs 6 = .ok (.invokestatic 164, 3) := dk_184 0 164 (dk_at dksX6_needs_0 6 rfl rfl)
theorem dX6_needs_9 : decode cX6_needs 9 = .ok (.istore_n 2, 1) := dk_61 (dk_at dksX6_needs_0 9 rfl rfl)
theorem dX6_needs_10 : decode cX6_needs 10 = .ok (.aload_n 0, 1) := dk_42 (dk_at dksX6_needs_0 10 rfl rfl)
theorem dX6_needs_11 : decode cX6_needs 11 = .ok (.getfield 31, 3) := dk_180 0 31 (dk_at dksX6_needs_0 11 rfl rfl)
theorem dX6_needs_14 : decode cX6_needs 14 = .ok (.aload_n 0, 1) := dk_42 (dk_at dksX6_needs_0 14 rfl rfl)
theorem dX6_needs_15 : decode cX6_needs 15 = .ok (.getfield 16, 3) := dk_180 0 16 (dk_at dksX6_needs_0 15 rfl rfl)
theorem dX6_needs_18 : decode cX6_needs 18 = .ok (.iload_n 1, 1) := dk_27 (dk_at dksX6_needs_0 18 rfl rfl)
theorem dX6_needs_19 : decode cX6_needs 19 = .ok (.iaload, 1) := dk_46 (dk_at dksX6_needs_0 19 rfl rfl)
theorem dX6_needs_20 : decode cX6_needs 20 = .ok (.iaload, 1) := dk_46 (dk_at dksX6_needs_0 20 rfl rfl)
theorem dX6_needs_21 : decode cX6_needs 21 = .ok (.iload_n 2, 1) := dk_28 (dk_at dksX6_needs_0 21 rfl rfl)
theorem dX6_needs_22 : decode cX6_needs 22 = .ok (.if_icmp .ge 17, 3) := dk_162 0 17 (dk_at dksX6_needs_1 0 rfl rfl)
theorem dX6_needs_25 : decode cX6_needs 25 = .ok (.aload_n 0, 1) := dk_42 (dk_at dksX6_needs_1 3 rfl rfl)
theorem dX6_needs_26 : decode cX6_needs 26 = .ok (.getfield 31, 3) := dk_180 0 31 (dk_at dksX6_needs_1 4 rfl rfl)
theorem dX6_needs_29 : decode cX6_needs 29 = .ok (.aload_n 0, 1) := dk_42 (dk_at dksX6_needs_1 7 rfl rfl)
theorem dX6_needs_30 : decode cX6_needs 30 = .ok (.getfield 16, 3) := dk_180 0 16 (dk_at dksX6_needs_1 8 rfl rfl)
theorem dX6_needs_33 : decode cX6_needs 33 = .ok (.iload_n 1, 1) := dk_27 (dk_at dksX6_needs_1 11 rfl rfl)
theorem dX6_needs_34 : decode cX6_needs 34 = .ok (.iaload, 1) := dk_46 (dk_at dksX6_needs_1 12 rfl rfl)
theorem dX6_needs_35 : decode cX6_needs 35 = .ok (.iaload, 1) := dk_46 (dk_at dksX6_needs_1 13 rfl rfl)
theorem dX6_needs_36 : decode cX6_needs 36 = .ok (.goto 4, 3) := dk_167 0 4 (dk_at dksX6_needs_1 14 rfl rfl)
theorem dX6_needs_39 : decode cX6_needs 39 = .ok (.iload_n 2, 1) := dk_28 (dk_at dksX6_needs_1 17 rfl rfl)
theorem dX6_needs_40 : decode cX6_needs 40 = .ok (.ireturn, 1) := dk_172 (dk_at dksX6_needs_1 18 rfl rfl)
abbrev cX6_ones : ByteArray := prog_11_method_5_code
def yX6_ones : MethodName := ⟨RX6, "ones", "(I)I"⟩
def dkwX6_ones_1 : List UInt8 := [27, 172]
abbrev dktX6_ones_1 : List UInt8 := dkwX6_ones_1 ++ []
def dkwX6_ones_0 : List UInt8 := [3, 60, 3, 61, 28, 16, 10, 162, 0, 17, 27, 26, 28, 122, 4, 126, 96, 60, 132, 2, 1, 167, 255, 239]
abbrev dktX6_ones_0 : List UInt8 := dkwX6_ones_0 ++ dktX6_ones_1
theorem dksX6_ones_0 : cX6_ones.data.toList.drop 0 = dktX6_ones_0 := by decide +kernel
theorem dksX6_ones_1 : cX6_ones.data.toList.drop 24 = dktX6_ones_1 := dk_seg dksX6_ones_0 24 rfl rfl
theorem dX6_ones_0 : decode cX6_ones 0 = .ok (.iconst 0, 1) := dk_3 (dk_at dksX6_ones_0 0 rfl rfl)
theorem dX6_ones_1 : decode cX6_ones 1 = .ok (.istore_n 1, 1) := dk_60 (dk_at dksX6_ones_0 1 rfl rfl)
theorem dX6_ones_2 : decode cX6_ones 2 = .ok (.iconst 0, 1) := dk_3 (dk_at dksX6_ones_0 2 rfl rfl)
theorem dX6_ones_3 : decode cX6_ones 3 = .ok (.istore_n 2, 1) := dk_61 (dk_at dksX6_ones_0 3 rfl rfl)
theorem dX6_ones_4 : decode cX6_ones 4 = .ok (.iload_n 2, 1) := dk_28 (dk_at dksX6_ones_0 4 rfl rfl)
theorem dX6_ones_5 : decode cX6_ones 5 = .ok (.bipush 10, 2) := dk_16 10 (dk_at dksX6_ones_0 5 rfl rfl)
theorem dX6_ones_7 : decode cX6_ones 7 = .ok (.if_icmp .ge 17, 3) := dk_162 0 17 (dk_at dksX6_ones_0 7 rfl rfl)
theorem dX6_ones_10 : decode cX6_ones 10 = .ok (.iload_n 1, 1) := dk_27 (dk_at dksX6_ones_0 10 rfl rfl)
theorem dX6_ones_11 : decode cX6_ones 11 = .ok (.iload_n 0, 1) := dk_26 (dk_at dksX6_ones_0 11 rfl rfl)
theorem dX6_ones_12 : decode cX6_ones 12 = .ok (.iload_n 2, 1) := dk_28 (dk_at dksX6_ones_0 12 rfl rfl)
theorem dX6_ones_13 : decode cX6_ones 13 = .ok (.ishr, 1) := dk_122 (dk_at dksX6_ones_0 13 rfl rfl)
theorem dX6_ones_14 : decode cX6_ones 14 = .ok (.iconst 1, 1) := dk_4 (dk_at dksX6_ones_0 14 rfl rfl)
theorem dX6_ones_15 : decode cX6_ones 15 = .ok (.iand, 1) := dk_126 (dk_at dksX6_ones_0 15 rfl rfl)
theorem dX6_ones_16 : decode cX6_ones 16 = .ok (.iadd, 1) := dk_96 (dk_at dksX6_ones_0 16 rfl rfl)
theorem dX6_ones_17 : decode cX6_ones 17 = .ok (.istore_n 1, 1) := dk_60 (dk_at dksX6_ones_0 17 rfl rfl)
theorem dX6_ones_18 : decode cX6_ones 18 = .ok (.iinc 2 1, 3) := dk_132 2 1 (dk_at dksX6_ones_0 18 rfl rfl)
theorem dX6_ones_21 : decode cX6_ones 21 = .ok (.goto (-17), 3) := dk_167 255 239 (dk_at dksX6_ones_0 21 rfl rfl)
theorem dX6_ones_24 : decode cX6_ones 24 = .ok (.iload_n 1, 1) := dk_27 (dk_at dksX6_ones_1 0 rfl rfl)
theorem dX6_ones_25 : decode cX6_ones 25 = .ok (.ireturn, 1) := dk_172 (dk_at dksX6_ones_1 1 rfl rfl)
abbrev cX6_hours : ByteArray := prog_11_method_36_code
def yX6_hours : MethodName := ⟨RX6, "hours", "(I)I"⟩
def dkwX6_hours_0 : List UInt8 := [42, 27, 182, 0, 142, 153, 0, 11, 42, 27, 182, 0, 179, 167, 0, 5, 16, 254, 172]
abbrev dktX6_hours_0 : List UInt8 := dkwX6_hours_0 ++ []
theorem dksX6_hours_0 : cX6_hours.data.toList.drop 0 = dktX6_hours_0 := by decide +kernel
theorem dX6_hours_0 : decode cX6_hours 0 = .ok (.aload_n 0, 1) := dk_42 (dk_at dksX6_hours_0 0 rfl rfl)
theorem dX6_hours_1 : decode cX6_hours 1 = .ok (.iload_n 1, 1) := dk_27 (dk_at dksX6_hours_0 1 rfl rfl)
theorem dX6_hours_2 : decode cX6_hours 2 = .ok (.invokevirtual 142, 3) := dk_182 0 142 (dk_at dksX6_hours_0 2 rfl rfl)
theorem dX6_hours_5 : decode cX6_hours 5 = .ok (.ifCond .eq 11, 3) := dk_153 0 11 (dk_at dksX6_hours_0 5 rfl rfl)
theorem dX6_hours_8 : decode cX6_hours 8 = .ok (.aload_n 0, 1) := dk_42 (dk_at dksX6_hours_0 8 rfl rfl)
theorem dX6_hours_9 : decode cX6_hours 9 = .ok (.iload_n 1, 1) := dk_27 (dk_at dksX6_hours_0 9 rfl rfl)
theorem dX6_hours_10 : decode cX6_hours 10 = .ok (.invokevirtual 179, 3) := dk_182 0 179 (dk_at dksX6_hours_0 10 rfl rfl)
theorem dX6_hours_13 : decode cX6_hours 13 = .ok (.goto 5, 3) := dk_167 0 5 (dk_at dksX6_hours_0 13 rfl rfl)
theorem dX6_hours_16 : decode cX6_hours 16 = .ok (.bipush (-2), 2) := dk_16 254 (dk_at dksX6_hours_0 16 rfl rfl)
theorem dX6_hours_18 : decode cX6_hours 18 = .ok (.ireturn, 1) := dk_172 (dk_at dksX6_hours_0 18 rfl rfl)
abbrev cX6_hoursOf : ByteArray := prog_11_method_35_code
def yX6_hoursOf : MethodName := ⟨RX6, "hoursOf", "(I)I"⟩
def dkwX6_hoursOf_1 : List UInt8 := [167, 255, 236, 28, 172]
abbrev dktX6_hoursOf_1 : List UInt8 := dkwX6_hoursOf_1 ++ []
def dkwX6_hoursOf_0 : List UInt8 := [3, 61, 3, 62, 29, 16, 8, 162, 0, 20, 28, 42, 27, 29, 182, 0, 176, 29, 120, 128, 61, 132, 3, 1]
abbrev dktX6_hoursOf_0 : List UInt8 := dkwX6_hoursOf_0 ++ dktX6_hoursOf_1
theorem dksX6_hoursOf_0 : cX6_hoursOf.data.toList.drop 0 = dktX6_hoursOf_0 := by decide +kernel
theorem dksX6_hoursOf_1 : cX6_hoursOf.data.toList.drop 24 = dktX6_hoursOf_1 := dk_seg dksX6_hoursOf_0 24 rfl rfl
theorem dX6_hoursOf_0 : decode cX6_hoursOf 0 = .ok (.iconst 0, 1) := dk_3 (dk_at dksX6_hoursOf_0 0 rfl rfl)
theorem dX6_hoursOf_1 : decode cX6_hoursOf 1 = .ok (.istore_n 2, 1) := dk_61 (dk_at dksX6_hoursOf_0 1 rfl rfl)
theorem dX6_hoursOf_2 : decode cX6_hoursOf 2 = .ok (.iconst 0, 1) := dk_3 (dk_at dksX6_hoursOf_0 2 rfl rfl)
theorem dX6_hoursOf_3 : decode cX6_hoursOf 3 = .ok (.istore_n 3, 1) := dk_62 (dk_at dksX6_hoursOf_0 3 rfl rfl)
theorem dX6_hoursOf_4 : decode cX6_hoursOf 4 = .ok (.iload_n 3, 1) := dk_29 (dk_at dksX6_hoursOf_0 4 rfl rfl)
theorem dX6_hoursOf_5 : decode cX6_hoursOf 5 = .ok (.bipush 8, 2) := dk_16 8 (dk_at dksX6_hoursOf_0 5 rfl rfl)
theorem dX6_hoursOf_7 : decode cX6_hoursOf 7 = .ok (.if_icmp .ge 20, 3) := dk_162 0 20 (dk_at dksX6_hoursOf_0 7 rfl rfl)
theorem dX6_hoursOf_10 : decode cX6_hoursOf 10 = .ok (.iload_n 2, 1) := dk_28 (dk_at dksX6_hoursOf_0 10 rfl rfl)
theorem dX6_hoursOf_11 : decode cX6_hoursOf 11 = .ok (.aload_n 0, 1) := dk_42 (dk_at dksX6_hoursOf_0 11 rfl rfl)
theorem dX6_hoursOf_12 : decode cX6_hoursOf 12 = .ok (.iload_n 1, 1) := dk_27 (dk_at dksX6_hoursOf_0 12 rfl rfl)
theorem dX6_hoursOf_13 : decode cX6_hoursOf 13 = .ok (.iload_n 3, 1) := dk_29 (dk_at dksX6_hoursOf_0 13 rfl rfl)
theorem dX6_hoursOf_14 : decode cX6_hoursOf 14 = .ok (.invokevirtual 176, 3) := dk_182 0 176 (dk_at dksX6_hoursOf_0 14 rfl rfl)
theorem dX6_hoursOf_17 : decode cX6_hoursOf 17 = .ok (.iload_n 3, 1) := dk_29 (dk_at dksX6_hoursOf_0 17 rfl rfl)
theorem dX6_hoursOf_18 : decode cX6_hoursOf 18 = .ok (.ishl, 1) := dk_120 (dk_at dksX6_hoursOf_0 18 rfl rfl)
theorem dX6_hoursOf_19 : decode cX6_hoursOf 19 = .ok (.ior, 1) := dk_128 (dk_at dksX6_hoursOf_0 19 rfl rfl)
theorem dX6_hoursOf_20 : decode cX6_hoursOf 20 = .ok (.istore_n 2, 1) := dk_61 (dk_at dksX6_hoursOf_0 20 rfl rfl)
theorem dX6_hoursOf_21 : decode cX6_hoursOf 21 = .ok (.iinc 3 1, 3) := dk_132 3 1 (dk_at dksX6_hoursOf_0 21 rfl rfl)
theorem dX6_hoursOf_24 : decode cX6_hoursOf 24 = .ok (.goto (-20), 3) := dk_167 255 236 (dk_at dksX6_hoursOf_1 0 rfl rfl)
theorem dX6_hoursOf_27 : decode cX6_hoursOf 27 = .ok (.iload_n 2, 1) := dk_28 (dk_at dksX6_hoursOf_1 3 rfl rfl)
theorem dX6_hoursOf_28 : decode cX6_hoursOf 28 = .ok (.ireturn, 1) := dk_172 (dk_at dksX6_hoursOf_1 4 rfl rfl)
abbrev cX6_comes : ByteArray := prog_11_method_37_code
def yX6_comes : MethodName := ⟨RX6, "comes", "(II)I"⟩
def dkwX6_comes_1 : List UInt8 := [16, 254, 172]
abbrev dktX6_comes_1 : List UInt8 := dkwX6_comes_1 ++ []
def dkwX6_comes_0 : List UInt8 := [42, 27, 182, 0, 142, 153, 0, 19, 28, 184, 0, 155, 153, 0, 12, 42, 27, 28, 182, 0, 173, 167, 0, 5]
abbrev dktX6_comes_0 : List UInt8 := dkwX6_comes_0 ++ dktX6_comes_1
theorem dksX6_comes_0 : cX6_comes.data.toList.drop 0 = dktX6_comes_0 := by decide +kernel
theorem dksX6_comes_1 : cX6_comes.data.toList.drop 24 = dktX6_comes_1 := dk_seg dksX6_comes_0 24 rfl rfl
theorem dX6_comes_0 : decode cX6_comes 0 = .ok (.aload_n 0, 1) := dk_42 (dk_at dksX6_comes_0 0 rfl rfl)
theorem dX6_comes_1 : decode cX6_comes 1 = .ok (.iload_n 1, 1) := dk_27 (dk_at dksX6_comes_0 1 rfl rfl)
theorem dX6_comes_2 : decode cX6_comes 2 = .ok (.invokevirtual 142, 3) := dk_182 0 142 (dk_at dksX6_comes_0 2 rfl rfl)
theorem dX6_comes_5 : decode cX6_comes 5 = .ok (.ifCond .eq 19, 3) := dk_153 0 19 (dk_at dksX6_comes_0 5 rfl rfl)
theorem dX6_comes_8 : decode cX6_comes 8 = .ok (.iload_n 2, 1) := dk_28 (dk_at dksX6_comes_0 8 rfl rfl)
theorem dX6_comes_9 : decode cX6_comes 9 = .ok (.invokestatic 155, 3) := dk_184 0 155 (dk_at dksX6_comes_0 9 rfl rfl)
theorem dX6_comes_12 : decode cX6_comes 12 = .ok (.ifCond .eq 12, 3) := dk_153 0 12 (dk_at dksX6_comes_0 12 rfl rfl)
theorem dX6_comes_15 : decode cX6_comes 15 = .ok (.aload_n 0, 1) := dk_42 (dk_at dksX6_comes_0 15 rfl rfl)
theorem dX6_comes_16 : decode cX6_comes 16 = .ok (.iload_n 1, 1) := dk_27 (dk_at dksX6_comes_0 16 rfl rfl)
theorem dX6_comes_17 : decode cX6_comes 17 = .ok (.iload_n 2, 1) := dk_28 (dk_at dksX6_comes_0 17 rfl rfl)
theorem dX6_comes_18 : decode cX6_comes 18 = .ok (.invokevirtual 173, 3) := dk_182 0 173 (dk_at dksX6_comes_0 18 rfl rfl)
theorem dX6_comes_21 : decode cX6_comes 21 = .ok (.goto 5, 3) := dk_167 0 5 (dk_at dksX6_comes_0 21 rfl rfl)
theorem dX6_comes_24 : decode cX6_comes 24 = .ok (.bipush (-2), 2) := dk_16 254 (dk_at dksX6_comes_1 0 rfl rfl)
theorem dX6_comes_26 : decode cX6_comes 26 = .ok (.ireturn, 1) := dk_172 (dk_at dksX6_comes_1 2 rfl rfl)
abbrev cX6_costs : ByteArray := prog_11_method_40_code
def yX6_costs : MethodName := ⟨RX6, "costs", "(II)I"⟩
def dkwX6_costs_1 : List UInt8 := [16, 254, 172]
abbrev dktX6_costs_1 : List UInt8 := dkwX6_costs_1 ++ []
def dkwX6_costs_0 : List UInt8 := [42, 27, 182, 0, 142, 153, 0, 19, 28, 184, 0, 155, 153, 0, 12, 42, 27, 28, 182, 0, 185, 167, 0, 5]
abbrev dktX6_costs_0 : List UInt8 := dkwX6_costs_0 ++ dktX6_costs_1
theorem dksX6_costs_0 : cX6_costs.data.toList.drop 0 = dktX6_costs_0 := by decide +kernel
theorem dksX6_costs_1 : cX6_costs.data.toList.drop 24 = dktX6_costs_1 := dk_seg dksX6_costs_0 24 rfl rfl
theorem dX6_costs_0 : decode cX6_costs 0 = .ok (.aload_n 0, 1) := dk_42 (dk_at dksX6_costs_0 0 rfl rfl)
theorem dX6_costs_1 : decode cX6_costs 1 = .ok (.iload_n 1, 1) := dk_27 (dk_at dksX6_costs_0 1 rfl rfl)
theorem dX6_costs_2 : decode cX6_costs 2 = .ok (.invokevirtual 142, 3) := dk_182 0 142 (dk_at dksX6_costs_0 2 rfl rfl)
theorem dX6_costs_5 : decode cX6_costs 5 = .ok (.ifCond .eq 19, 3) := dk_153 0 19 (dk_at dksX6_costs_0 5 rfl rfl)
theorem dX6_costs_8 : decode cX6_costs 8 = .ok (.iload_n 2, 1) := dk_28 (dk_at dksX6_costs_0 8 rfl rfl)
theorem dX6_costs_9 : decode cX6_costs 9 = .ok (.invokestatic 155, 3) := dk_184 0 155 (dk_at dksX6_costs_0 9 rfl rfl)
theorem dX6_costs_12 : decode cX6_costs 12 = .ok (.ifCond .eq 12, 3) := dk_153 0 12 (dk_at dksX6_costs_0 12 rfl rfl)
theorem dX6_costs_15 : decode cX6_costs 15 = .ok (.aload_n 0, 1) := dk_42 (dk_at dksX6_costs_0 15 rfl rfl)
theorem dX6_costs_16 : decode cX6_costs 16 = .ok (.iload_n 1, 1) := dk_27 (dk_at dksX6_costs_0 16 rfl rfl)
theorem dX6_costs_17 : decode cX6_costs 17 = .ok (.iload_n 2, 1) := dk_28 (dk_at dksX6_costs_0 17 rfl rfl)
theorem dX6_costs_18 : decode cX6_costs 18 = .ok (.invokevirtual 185, 3) := dk_182 0 185 (dk_at dksX6_costs_0 18 rfl rfl)
theorem dX6_costs_21 : decode cX6_costs 21 = .ok (.goto 5, 3) := dk_167 0 5 (dk_at dksX6_costs_0 21 rfl rfl)
theorem dX6_costs_24 : decode cX6_costs 24 = .ok (.bipush (-2), 2) := dk_16 254 (dk_at dksX6_costs_1 0 rfl rfl)
theorem dX6_costs_26 : decode cX6_costs 26 = .ok (.ireturn, 1) := dk_172 (dk_at dksX6_costs_1 2 rfl rfl)
abbrev cX6_costsOf : ByteArray := prog_11_method_39_code
def yX6_costsOf : MethodName := ⟨RX6, "costsOf", "(II)I"⟩
def dkwX6_costsOf_1 : List UInt8 := [27, 28, 182, 0, 167, 153, 0, 12, 42, 180, 0, 55, 3, 46, 167, 0, 4, 3, 96, 172]
abbrev dktX6_costsOf_1 : List UInt8 := dkwX6_costsOf_1 ++ []
def dkwX6_costsOf_0 : List UInt8 := [42, 27, 28, 182, 0, 173, 62, 29, 16, 253, 160, 0, 8, 16, 253, 167, 0, 28, 42, 29, 182, 0, 182, 42]
abbrev dktX6_costsOf_0 : List UInt8 := dkwX6_costsOf_0 ++ dktX6_costsOf_1
theorem dksX6_costsOf_0 : cX6_costsOf.data.toList.drop 0 = dktX6_costsOf_0 := by decide +kernel
theorem dksX6_costsOf_1 : cX6_costsOf.data.toList.drop 24 = dktX6_costsOf_1 := dk_seg dksX6_costsOf_0 24 rfl rfl
theorem dX6_costsOf_0 : decode cX6_costsOf 0 = .ok (.aload_n 0, 1) := dk_42 (dk_at dksX6_costsOf_0 0 rfl rfl)
theorem dX6_costsOf_1 : decode cX6_costsOf 1 = .ok (.iload_n 1, 1) := dk_27 (dk_at dksX6_costsOf_0 1 rfl rfl)
theorem dX6_costsOf_2 : decode cX6_costsOf 2 = .ok (.iload_n 2, 1) := dk_28 (dk_at dksX6_costsOf_0 2 rfl rfl)
theorem dX6_costsOf_3 : decode cX6_costsOf 3 = .ok (.invokevirtual 173, 3) := dk_182 0 173 (dk_at dksX6_costsOf_0 3 rfl rfl)
theorem dX6_costsOf_6 : decode cX6_costsOf 6 = .ok (.istore_n 3, 1) := dk_62 (dk_at dksX6_costsOf_0 6 rfl rfl)
theorem dX6_costsOf_7 : decode cX6_costsOf 7 = .ok (.iload_n 3, 1) := dk_29 (dk_at dksX6_costsOf_0 7 rfl rfl)
theorem dX6_costsOf_8 : decode cX6_costsOf 8 = .ok (.bipush (-3), 2) := dk_16 253 (dk_at dksX6_costsOf_0 8 rfl rfl)
theorem dX6_costsOf_10 : decode cX6_costsOf 10 = .ok (.if_icmp .ne 8, 3) := dk_160 0 8 (dk_at dksX6_costsOf_0 10 rfl rfl)
theorem dX6_costsOf_13 : decode cX6_costsOf 13 = .ok (.bipush (-3), 2) := dk_16 253 (dk_at dksX6_costsOf_0 13 rfl rfl)
theorem dX6_costsOf_15 : decode cX6_costsOf 15 = .ok (.goto 28, 3) := dk_167 0 28 (dk_at dksX6_costsOf_0 15 rfl rfl)
theorem dX6_costsOf_18 : decode cX6_costsOf 18 = .ok (.aload_n 0, 1) := dk_42 (dk_at dksX6_costsOf_0 18 rfl rfl)
theorem dX6_costsOf_19 : decode cX6_costsOf 19 = .ok (.iload_n 3, 1) := dk_29 (dk_at dksX6_costsOf_0 19 rfl rfl)
theorem dX6_costsOf_20 : decode cX6_costsOf 20 = .ok (.invokevirtual 182, 3) := dk_182 0 182 (dk_at dksX6_costsOf_0 20 rfl rfl)
theorem dX6_costsOf_23 : decode cX6_costsOf 23 = .ok (.aload_n 0, 1) := dk_42 (dk_at dksX6_costsOf_0 23 rfl rfl)
theorem dX6_costsOf_24 : decode cX6_costsOf 24 = .ok (.iload_n 1, 1) := dk_27 (dk_at dksX6_costsOf_1 0 rfl rfl)
theorem dX6_costsOf_25 : decode cX6_costsOf 25 = .ok (.iload_n 2, 1) := dk_28 (dk_at dksX6_costsOf_1 1 rfl rfl)
theorem dX6_costsOf_26 : decode cX6_costsOf 26 = .ok (.invokevirtual 167, 3) := dk_182 0 167 (dk_at dksX6_costsOf_1 2 rfl rfl)
theorem dX6_costsOf_29 : decode cX6_costsOf 29 = .ok (.ifCond .eq 12, 3) := dk_153 0 12 (dk_at dksX6_costsOf_1 5 rfl rfl)
theorem dX6_costsOf_32 : decode cX6_costsOf 32 = .ok (.aload_n 0, 1) := dk_42 (dk_at dksX6_costsOf_1 8 rfl rfl)
theorem dX6_costsOf_33 : decode cX6_costsOf 33 = .ok (.getfield 55, 3) := dk_180 0 55 (dk_at dksX6_costsOf_1 9 rfl rfl)
theorem dX6_costsOf_36 : decode cX6_costsOf 36 = .ok (.iconst 0, 1) := dk_3 (dk_at dksX6_costsOf_1 12 rfl rfl)
theorem dX6_costsOf_37 : decode cX6_costsOf 37 = .ok (.iaload, 1) := dk_46 (dk_at dksX6_costsOf_1 13 rfl rfl)
theorem dX6_costsOf_38 : decode cX6_costsOf 38 = .ok (.goto 4, 3) := dk_167 0 4 (dk_at dksX6_costsOf_1 14 rfl rfl)
theorem dX6_costsOf_41 : decode cX6_costsOf 41 = .ok (.iconst 0, 1) := dk_3 (dk_at dksX6_costsOf_1 17 rfl rfl)
theorem dX6_costsOf_42 : decode cX6_costsOf 42 = .ok (.iadd, 1) := dk_96 (dk_at dksX6_costsOf_1 18 rfl rfl)
theorem dX6_costsOf_43 : decode cX6_costsOf 43 = .ok (.ireturn, 1) := dk_172 (dk_at dksX6_costsOf_1 19 rfl rfl)
abbrev cX6_pricesOf : ByteArray := prog_11_method_38_code
def yX6_pricesOf : MethodName := ⟨RX6, "pricesOf", "(I)I"⟩
def dkwX6_pricesOf_1 : List UInt8 := [46, 167, 0, 4, 3, 96, 61, 132, 3, 1, 167, 255, 226, 28, 172]
abbrev dktX6_pricesOf_1 : List UInt8 := dkwX6_pricesOf_1 ++ []
def dkwX6_pricesOf_0 : List UInt8 := [3, 61, 3, 62, 29, 16, 8, 162, 0, 30, 28, 27, 29, 184, 0, 119, 153, 0, 12, 42, 180, 0, 46, 29]
abbrev dktX6_pricesOf_0 : List UInt8 := dkwX6_pricesOf_0 ++ dktX6_pricesOf_1
theorem dksX6_pricesOf_0 : cX6_pricesOf.data.toList.drop 0 = dktX6_pricesOf_0 := by decide +kernel
theorem dksX6_pricesOf_1 : cX6_pricesOf.data.toList.drop 24 = dktX6_pricesOf_1 := dk_seg dksX6_pricesOf_0 24 rfl rfl
theorem dX6_pricesOf_0 : decode cX6_pricesOf 0 = .ok (.iconst 0, 1) := dk_3 (dk_at dksX6_pricesOf_0 0 rfl rfl)
theorem dX6_pricesOf_1 : decode cX6_pricesOf 1 = .ok (.istore_n 2, 1) := dk_61 (dk_at dksX6_pricesOf_0 1 rfl rfl)
theorem dX6_pricesOf_2 : decode cX6_pricesOf 2 = .ok (.iconst 0, 1) := dk_3 (dk_at dksX6_pricesOf_0 2 rfl rfl)
theorem dX6_pricesOf_3 : decode cX6_pricesOf 3 = .ok (.istore_n 3, 1) := dk_62 (dk_at dksX6_pricesOf_0 3 rfl rfl)
theorem dX6_pricesOf_4 : decode cX6_pricesOf 4 = .ok (.iload_n 3, 1) := dk_29 (dk_at dksX6_pricesOf_0 4 rfl rfl)
theorem dX6_pricesOf_5 : decode cX6_pricesOf 5 = .ok (.bipush 8, 2) := dk_16 8 (dk_at dksX6_pricesOf_0 5 rfl rfl)
theorem dX6_pricesOf_7 : decode cX6_pricesOf 7 = .ok (.if_icmp .ge 30, 3) := dk_162 0 30 (dk_at dksX6_pricesOf_0 7 rfl rfl)
theorem dX6_pricesOf_10 : decode cX6_pricesOf 10 = .ok (.iload_n 2, 1) := dk_28 (dk_at dksX6_pricesOf_0 10 rfl rfl)
theorem dX6_pricesOf_11 : decode cX6_pricesOf 11 = .ok (.iload_n 1, 1) := dk_27 (dk_at dksX6_pricesOf_0 11 rfl rfl)
theorem dX6_pricesOf_12 : decode cX6_pricesOf 12 = .ok (.iload_n 3, 1) := dk_29 (dk_at dksX6_pricesOf_0 12 rfl rfl)
theorem dX6_pricesOf_13 : decode cX6_pricesOf 13 = .ok (.invokestatic 119, 3) := dk_184 0 119 (dk_at dksX6_pricesOf_0 13 rfl rfl)
theorem dX6_pricesOf_16 : decode cX6_pricesOf 16 = .ok (.ifCond .eq 12, 3) := dk_153 0 12 (dk_at dksX6_pricesOf_0 16 rfl rfl)
theorem dX6_pricesOf_19 : decode cX6_pricesOf 19 = .ok (.aload_n 0, 1) := dk_42 (dk_at dksX6_pricesOf_0 19 rfl rfl)
theorem dX6_pricesOf_20 : decode cX6_pricesOf 20 = .ok (.getfield 46, 3) := dk_180 0 46 (dk_at dksX6_pricesOf_0 20 rfl rfl)
theorem dX6_pricesOf_23 : decode cX6_pricesOf 23 = .ok (.iload_n 3, 1) := dk_29 (dk_at dksX6_pricesOf_0 23 rfl rfl)
theorem dX6_pricesOf_24 : decode cX6_pricesOf 24 = .ok (.iaload, 1) := dk_46 (dk_at dksX6_pricesOf_1 0 rfl rfl)
theorem dX6_pricesOf_25 : decode cX6_pricesOf 25 = .ok (.goto 4, 3) := dk_167 0 4 (dk_at dksX6_pricesOf_1 1 rfl rfl)
theorem dX6_pricesOf_28 : decode cX6_pricesOf 28 = .ok (.iconst 0, 1) := dk_3 (dk_at dksX6_pricesOf_1 4 rfl rfl)
theorem dX6_pricesOf_29 : decode cX6_pricesOf 29 = .ok (.iadd, 1) := dk_96 (dk_at dksX6_pricesOf_1 5 rfl rfl)
theorem dX6_pricesOf_30 : decode cX6_pricesOf 30 = .ok (.istore_n 2, 1) := dk_61 (dk_at dksX6_pricesOf_1 6 rfl rfl)
theorem dX6_pricesOf_31 : decode cX6_pricesOf 31 = .ok (.iinc 3 1, 3) := dk_132 3 1 (dk_at dksX6_pricesOf_1 7 rfl rfl)
theorem dX6_pricesOf_34 : decode cX6_pricesOf 34 = .ok (.goto (-30), 3) := dk_167 255 226 (dk_at dksX6_pricesOf_1 10 rfl rfl)
theorem dX6_pricesOf_37 : decode cX6_pricesOf 37 = .ok (.iload_n 2, 1) := dk_28 (dk_at dksX6_pricesOf_1 13 rfl rfl)
theorem dX6_pricesOf_38 : decode cX6_pricesOf 38 = .ok (.ireturn, 1) := dk_172 (dk_at dksX6_pricesOf_1 14 rfl rfl)
abbrev cX6_most : ByteArray := prog_11_method_45_code
def yX6_most : MethodName := ⟨RX6, "most", "(I)I"⟩
def dkwX6_most_1 : List UInt8 := [167, 0, 7, 42, 180, 0, 208, 172]
abbrev dktX6_most_1 : List UInt8 := dkwX6_most_1 ++ []
def dkwX6_most_0 : List UInt8 := [27, 3, 4, 184, 0, 103, 154, 0, 6, 16, 254, 172, 42, 182, 0, 211, 27, 154, 0, 10, 42, 180, 0, 205]
abbrev dktX6_most_0 : List UInt8 := dkwX6_most_0 ++ dktX6_most_1
theorem dksX6_most_0 : cX6_most.data.toList.drop 0 = dktX6_most_0 := by decide +kernel
theorem dksX6_most_1 : cX6_most.data.toList.drop 24 = dktX6_most_1 := dk_seg dksX6_most_0 24 rfl rfl
theorem dX6_most_0 : decode cX6_most 0 = .ok (.iload_n 1, 1) := dk_27 (dk_at dksX6_most_0 0 rfl rfl)
theorem dX6_most_1 : decode cX6_most 1 = .ok (.iconst 0, 1) := dk_3 (dk_at dksX6_most_0 1 rfl rfl)
theorem dX6_most_2 : decode cX6_most 2 = .ok (.iconst 1, 1) := dk_4 (dk_at dksX6_most_0 2 rfl rfl)
theorem dX6_most_3 : decode cX6_most 3 = .ok (.invokestatic 103, 3) := dk_184 0 103 (dk_at dksX6_most_0 3 rfl rfl)
theorem dX6_most_6 : decode cX6_most 6 = .ok (.ifCond .ne 6, 3) := dk_154 0 6 (dk_at dksX6_most_0 6 rfl rfl)
theorem dX6_most_9 : decode cX6_most 9 = .ok (.bipush (-2), 2) := dk_16 254 (dk_at dksX6_most_0 9 rfl rfl)
theorem dX6_most_11 : decode cX6_most 11 = .ok (.ireturn, 1) := dk_172 (dk_at dksX6_most_0 11 rfl rfl)
theorem dX6_most_12 : decode cX6_most 12 = .ok (.aload_n 0, 1) := dk_42 (dk_at dksX6_most_0 12 rfl rfl)
theorem dX6_most_13 : decode cX6_most 13 = .ok (.invokevirtual 211, 3) := dk_182 0 211 (dk_at dksX6_most_0 13 rfl rfl)
theorem dX6_most_16 : decode cX6_most 16 = .ok (.iload_n 1, 1) := dk_27 (dk_at dksX6_most_0 16 rfl rfl)
theorem dX6_most_17 : decode cX6_most 17 = .ok (.ifCond .ne 10, 3) := dk_154 0 10 (dk_at dksX6_most_0 17 rfl rfl)
theorem dX6_most_20 : decode cX6_most 20 = .ok (.aload_n 0, 1) := dk_42 (dk_at dksX6_most_0 20 rfl rfl)
theorem dX6_most_21 : decode cX6_most 21 = .ok (.getfield 205, 3) := dk_180 0 205 (dk_at dksX6_most_0 21 rfl rfl)
theorem dX6_most_24 : decode cX6_most 24 = .ok (.goto 7, 3) := dk_167 0 7 (dk_at dksX6_most_1 0 rfl rfl)
theorem dX6_most_27 : decode cX6_most 27 = .ok (.aload_n 0, 1) := dk_42 (dk_at dksX6_most_1 3 rfl rfl)
theorem dX6_most_28 : decode cX6_most 28 = .ok (.getfield 208, 3) := dk_180 0 208 (dk_at dksX6_most_1 4 rfl rfl)
theorem dX6_most_31 : decode cX6_most 31 = .ok (.ireturn, 1) := dk_172 (dk_at dksX6_most_1 7 rfl rfl)
abbrev cX6_laysMost : ByteArray := prog_11_method_44_code
def yX6_laysMost : MethodName := ⟨RX6, "laysMost", "()V"⟩
def dkwX6_laysMost_6 : List UInt8 := [132, 1, 1, 167, 255, 189, 177]
abbrev dktX6_laysMost_6 : List UInt8 := dkwX6_laysMost_6 ++ []
def dkwX6_laysMost_5 : List UInt8 := [159, 0, 23, 42, 180, 0, 67, 27, 92, 46, 4, 96, 79, 42, 27, 4, 96, 182, 0, 201, 167, 255, 217]
abbrev dktX6_laysMost_5 : List UInt8 := dkwX6_laysMost_5 ++ dktX6_laysMost_6
def dkwX6_laysMost_4 : List UInt8 := [182, 0, 201, 42, 180, 0, 189, 42, 180, 0, 205, 160, 0, 14, 42, 180, 0, 192, 42, 180, 0, 208]
abbrev dktX6_laysMost_4 : List UInt8 := dkwX6_laysMost_4 ++ dktX6_laysMost_5
def dkwX6_laysMost_3 : List UInt8 := [181, 0, 208, 3, 60, 27, 42, 180, 0, 107, 162, 0, 65, 42, 180, 0, 67, 27, 2, 79, 42, 27, 4, 96]
abbrev dktX6_laysMost_3 : List UInt8 := dkwX6_laysMost_3 ++ dktX6_laysMost_4
def dkwX6_laysMost_2 : List UInt8 := [132, 1, 1, 167, 255, 211, 42, 3, 182, 0, 201, 42, 42, 180, 0, 189, 181, 0, 205, 42, 42, 180, 0, 192]
abbrev dktX6_laysMost_2 : List UInt8 := dkwX6_laysMost_2 ++ dktX6_laysMost_3
def dkwX6_laysMost_1 : List UInt8 := [42, 180, 0, 58, 17, 1, 0, 27, 104, 28, 96, 42, 28, 27, 182, 0, 198, 79, 132, 2, 1, 167, 255, 225]
abbrev dktX6_laysMost_1 : List UInt8 := dkwX6_laysMost_1 ++ dktX6_laysMost_2
def dkwX6_laysMost_0 : List UInt8 := [42, 182, 0, 139, 3, 60, 27, 16, 8, 162, 0, 45, 3, 61, 28, 4, 42, 180, 0, 107, 120, 162, 0, 27]
abbrev dktX6_laysMost_0 : List UInt8 := dkwX6_laysMost_0 ++ dktX6_laysMost_1
theorem dksX6_laysMost_0 : cX6_laysMost.data.toList.drop 0 = dktX6_laysMost_0 := by decide +kernel
theorem dksX6_laysMost_1 : cX6_laysMost.data.toList.drop 24 = dktX6_laysMost_1 := dk_seg dksX6_laysMost_0 24 rfl rfl
theorem dksX6_laysMost_2 : cX6_laysMost.data.toList.drop 48 = dktX6_laysMost_2 := dk_seg dksX6_laysMost_1 24 rfl rfl
theorem dksX6_laysMost_3 : cX6_laysMost.data.toList.drop 72 = dktX6_laysMost_3 := dk_seg dksX6_laysMost_2 24 rfl rfl
theorem dksX6_laysMost_4 : cX6_laysMost.data.toList.drop 96 = dktX6_laysMost_4 := dk_seg dksX6_laysMost_3 24 rfl rfl
theorem dksX6_laysMost_5 : cX6_laysMost.data.toList.drop 118 = dktX6_laysMost_5 := dk_seg dksX6_laysMost_4 22 rfl rfl
theorem dksX6_laysMost_6 : cX6_laysMost.data.toList.drop 141 = dktX6_laysMost_6 := dk_seg dksX6_laysMost_5 23 rfl rfl
theorem dX6_laysMost_0 : decode cX6_laysMost 0 = .ok (.aload_n 0, 1) := dk_42 (dk_at dksX6_laysMost_0 0 rfl rfl)
theorem dX6_laysMost_1 : decode cX6_laysMost 1 = .ok (.invokevirtual 139, 3) := dk_182 0 139 (dk_at dksX6_laysMost_0 1 rfl rfl)
theorem dX6_laysMost_4 : decode cX6_laysMost 4 = .ok (.iconst 0, 1) := dk_3 (dk_at dksX6_laysMost_0 4 rfl rfl)
theorem dX6_laysMost_5 : decode cX6_laysMost 5 = .ok (.istore_n 1, 1) := dk_60 (dk_at dksX6_laysMost_0 5 rfl rfl)
theorem dX6_laysMost_6 : decode cX6_laysMost 6 = .ok (.iload_n 1, 1) := dk_27 (dk_at dksX6_laysMost_0 6 rfl rfl)
theorem dX6_laysMost_7 : decode cX6_laysMost 7 = .ok (.bipush 8, 2) := dk_16 8 (dk_at dksX6_laysMost_0 7 rfl rfl)
theorem dX6_laysMost_9 : decode cX6_laysMost 9 = .ok (.if_icmp .ge 45, 3) := dk_162 0 45 (dk_at dksX6_laysMost_0 9 rfl rfl)
theorem dX6_laysMost_12 : decode cX6_laysMost 12 = .ok (.iconst 0, 1) := dk_3 (dk_at dksX6_laysMost_0 12 rfl rfl)
theorem dX6_laysMost_13 : decode cX6_laysMost 13 = .ok (.istore_n 2, 1) := dk_61 (dk_at dksX6_laysMost_0 13 rfl rfl)
theorem dX6_laysMost_14 : decode cX6_laysMost 14 = .ok (.iload_n 2, 1) := dk_28 (dk_at dksX6_laysMost_0 14 rfl rfl)
theorem dX6_laysMost_15 : decode cX6_laysMost 15 = .ok (.iconst 1, 1) := dk_4 (dk_at dksX6_laysMost_0 15 rfl rfl)
theorem dX6_laysMost_16 : decode cX6_laysMost 16 = .ok (.aload_n 0, 1) := dk_42 (dk_at dksX6_laysMost_0 16 rfl rfl)
theorem dX6_laysMost_17 : decode cX6_laysMost 17 = .ok (.getfield 107, 3) := dk_180 0 107 (dk_at dksX6_laysMost_0 17 rfl rfl)
theorem dX6_laysMost_20 : decode cX6_laysMost 20 = .ok (.ishl, 1) := dk_120 (dk_at dksX6_laysMost_0 20 rfl rfl)
theorem dX6_laysMost_21 : decode cX6_laysMost 21 = .ok (.if_icmp .ge 27, 3) := dk_162 0 27 (dk_at dksX6_laysMost_0 21 rfl rfl)
theorem dX6_laysMost_24 : decode cX6_laysMost 24 = .ok (.aload_n 0, 1) := dk_42 (dk_at dksX6_laysMost_1 0 rfl rfl)
theorem dX6_laysMost_25 : decode cX6_laysMost 25 = .ok (.getfield 58, 3) := dk_180 0 58 (dk_at dksX6_laysMost_1 1 rfl rfl)
theorem dX6_laysMost_28 : decode cX6_laysMost 28 = .ok (.sipush 256, 3) := dk_17 1 0 (dk_at dksX6_laysMost_1 4 rfl rfl)
theorem dX6_laysMost_31 : decode cX6_laysMost 31 = .ok (.iload_n 1, 1) := dk_27 (dk_at dksX6_laysMost_1 7 rfl rfl)
theorem dX6_laysMost_32 : decode cX6_laysMost 32 = .ok (.imul, 1) := dk_104 (dk_at dksX6_laysMost_1 8 rfl rfl)
theorem dX6_laysMost_33 : decode cX6_laysMost 33 = .ok (.iload_n 2, 1) := dk_28 (dk_at dksX6_laysMost_1 9 rfl rfl)
theorem dX6_laysMost_34 : decode cX6_laysMost 34 = .ok (.iadd, 1) := dk_96 (dk_at dksX6_laysMost_1 10 rfl rfl)
theorem dX6_laysMost_35 : decode cX6_laysMost 35 = .ok (.aload_n 0, 1) := dk_42 (dk_at dksX6_laysMost_1 11 rfl rfl)
theorem dX6_laysMost_36 : decode cX6_laysMost 36 = .ok (.iload_n 2, 1) := dk_28 (dk_at dksX6_laysMost_1 12 rfl rfl)
theorem dX6_laysMost_37 : decode cX6_laysMost 37 = .ok (.iload_n 1, 1) := dk_27 (dk_at dksX6_laysMost_1 13 rfl rfl)
theorem dX6_laysMost_38 : decode cX6_laysMost 38 = .ok (.invokevirtual 198, 3) := dk_182 0 198 (dk_at dksX6_laysMost_1 14 rfl rfl)
theorem dX6_laysMost_41 : decode cX6_laysMost 41 = .ok (.iastore, 1) := dk_79 (dk_at dksX6_laysMost_1 17 rfl rfl)
theorem dX6_laysMost_42 : decode cX6_laysMost 42 = .ok (.iinc 2 1, 3) := dk_132 2 1 (dk_at dksX6_laysMost_1 18 rfl rfl)
theorem dX6_laysMost_45 : decode cX6_laysMost 45 = .ok (.goto (-31), 3) := dk_167 255 225 (dk_at dksX6_laysMost_1 21 rfl rfl)
theorem dX6_laysMost_48 : decode cX6_laysMost 48 = .ok (.iinc 1 1, 3) := dk_132 1 1 (dk_at dksX6_laysMost_2 0 rfl rfl)
theorem dX6_laysMost_51 : decode cX6_laysMost 51 = .ok (.goto (-45), 3) := dk_167 255 211 (dk_at dksX6_laysMost_2 3 rfl rfl)
theorem dX6_laysMost_54 : decode cX6_laysMost 54 = .ok (.aload_n 0, 1) := dk_42 (dk_at dksX6_laysMost_2 6 rfl rfl)
theorem dX6_laysMost_55 : decode cX6_laysMost 55 = .ok (.iconst 0, 1) := dk_3 (dk_at dksX6_laysMost_2 7 rfl rfl)
theorem dX6_laysMost_56 : decode cX6_laysMost 56 = .ok (.invokevirtual 201, 3) := dk_182 0 201 (dk_at dksX6_laysMost_2 8 rfl rfl)
theorem dX6_laysMost_59 : decode cX6_laysMost 59 = .ok (.aload_n 0, 1) := dk_42 (dk_at dksX6_laysMost_2 11 rfl rfl)
theorem dX6_laysMost_60 : decode cX6_laysMost 60 = .ok (.aload_n 0, 1) := dk_42 (dk_at dksX6_laysMost_2 12 rfl rfl)
theorem dX6_laysMost_61 : decode cX6_laysMost 61 = .ok (.getfield 189, 3) := dk_180 0 189 (dk_at dksX6_laysMost_2 13 rfl rfl)
theorem dX6_laysMost_64 : decode cX6_laysMost 64 = .ok (.putfield 205, 3) := dk_181 0 205 (dk_at dksX6_laysMost_2 16 rfl rfl)
theorem dX6_laysMost_67 : decode cX6_laysMost 67 = .ok (.aload_n 0, 1) := dk_42 (dk_at dksX6_laysMost_2 19 rfl rfl)
theorem dX6_laysMost_68 : decode cX6_laysMost 68 = .ok (.aload_n 0, 1) := dk_42 (dk_at dksX6_laysMost_2 20 rfl rfl)
theorem dX6_laysMost_69 : decode cX6_laysMost 69 = .ok (.getfield 192, 3) := dk_180 0 192 (dk_at dksX6_laysMost_2 21 rfl rfl)
theorem dX6_laysMost_72 : decode cX6_laysMost 72 = .ok (.putfield 208, 3) := dk_181 0 208 (dk_at dksX6_laysMost_3 0 rfl rfl)
theorem dX6_laysMost_75 : decode cX6_laysMost 75 = .ok (.iconst 0, 1) := dk_3 (dk_at dksX6_laysMost_3 3 rfl rfl)
theorem dX6_laysMost_76 : decode cX6_laysMost 76 = .ok (.istore_n 1, 1) := dk_60 (dk_at dksX6_laysMost_3 4 rfl rfl)
theorem dX6_laysMost_77 : decode cX6_laysMost 77 = .ok (.iload_n 1, 1) := dk_27 (dk_at dksX6_laysMost_3 5 rfl rfl)
theorem dX6_laysMost_78 : decode cX6_laysMost 78 = .ok (.aload_n 0, 1) := dk_42 (dk_at dksX6_laysMost_3 6 rfl rfl)
theorem dX6_laysMost_79 : decode cX6_laysMost 79 = .ok (.getfield 107, 3) := dk_180 0 107 (dk_at dksX6_laysMost_3 7 rfl rfl)
theorem dX6_laysMost_82 : decode cX6_laysMost 82 = .ok (.if_icmp .ge 65, 3) := dk_162 0 65 (dk_at dksX6_laysMost_3 10 rfl rfl)
theorem dX6_laysMost_85 : decode cX6_laysMost 85 = .ok (.aload_n 0, 1) := dk_42 (dk_at dksX6_laysMost_3 13 rfl rfl)
theorem dX6_laysMost_86 : decode cX6_laysMost 86 = .ok (.getfield 67, 3) := dk_180 0 67 (dk_at dksX6_laysMost_3 14 rfl rfl)
theorem dX6_laysMost_89 : decode cX6_laysMost 89 = .ok (.iload_n 1, 1) := dk_27 (dk_at dksX6_laysMost_3 17 rfl rfl)
theorem dX6_laysMost_90 : decode cX6_laysMost 90 = .ok (.iconst (-1), 1) := dk_2 (dk_at dksX6_laysMost_3 18 rfl rfl)
theorem dX6_laysMost_91 : decode cX6_laysMost 91 = .ok (.iastore, 1) := dk_79 (dk_at dksX6_laysMost_3 19 rfl rfl)
theorem dX6_laysMost_92 : decode cX6_laysMost 92 = .ok (.aload_n 0, 1) := dk_42 (dk_at dksX6_laysMost_3 20 rfl rfl)
theorem dX6_laysMost_93 : decode cX6_laysMost 93 = .ok (.iload_n 1, 1) := dk_27 (dk_at dksX6_laysMost_3 21 rfl rfl)
theorem dX6_laysMost_94 : decode cX6_laysMost 94 = .ok (.iconst 1, 1) := dk_4 (dk_at dksX6_laysMost_3 22 rfl rfl)
theorem dX6_laysMost_95 : decode cX6_laysMost 95 = .ok (.iadd, 1) := dk_96 (dk_at dksX6_laysMost_3 23 rfl rfl)
theorem dX6_laysMost_96 : decode cX6_laysMost 96 = .ok (.invokevirtual 201, 3) := dk_182 0 201 (dk_at dksX6_laysMost_4 0 rfl rfl)
theorem dX6_laysMost_99 : decode cX6_laysMost 99 = .ok (.aload_n 0, 1) := dk_42 (dk_at dksX6_laysMost_4 3 rfl rfl)
theorem dX6_laysMost_100 : decode cX6_laysMost 100 = .ok (.getfield 189, 3) := dk_180 0 189 (dk_at dksX6_laysMost_4 4 rfl rfl)
theorem dX6_laysMost_103 : decode cX6_laysMost 103 = .ok (.aload_n 0, 1) := dk_42 (dk_at dksX6_laysMost_4 7 rfl rfl)
theorem dX6_laysMost_104 : decode cX6_laysMost 104 = .ok (.getfield 205, 3) := dk_180 0 205 (dk_at dksX6_laysMost_4 8 rfl rfl)
theorem dX6_laysMost_107 : decode cX6_laysMost 107 = .ok (.if_icmp .ne 14, 3) := dk_160 0 14 (dk_at dksX6_laysMost_4 11 rfl rfl)
theorem dX6_laysMost_110 : decode cX6_laysMost 110 = .ok (.aload_n 0, 1) := dk_42 (dk_at dksX6_laysMost_4 14 rfl rfl)
theorem dX6_laysMost_111 : decode cX6_laysMost 111 = .ok (.getfield 192, 3) := dk_180 0 192 (dk_at dksX6_laysMost_4 15 rfl rfl)
theorem dX6_laysMost_114 : decode cX6_laysMost 114 = .ok (.aload_n 0, 1) := dk_42 (dk_at dksX6_laysMost_4 18 rfl rfl)
theorem dX6_laysMost_115 : decode cX6_laysMost 115 = .ok (.getfield 208, 3) := dk_180 0 208 (dk_at dksX6_laysMost_4 19 rfl rfl)
theorem dX6_laysMost_118 : decode cX6_laysMost 118 = .ok (.if_icmp .eq 23, 3) := dk_159 0 23 (dk_at dksX6_laysMost_5 0 rfl rfl)
theorem dX6_laysMost_121 : decode cX6_laysMost 121 = .ok (.aload_n 0, 1) := dk_42 (dk_at dksX6_laysMost_5 3 rfl rfl)
theorem dX6_laysMost_122 : decode cX6_laysMost 122 = .ok (.getfield 67, 3) := dk_180 0 67 (dk_at dksX6_laysMost_5 4 rfl rfl)
theorem dX6_laysMost_125 : decode cX6_laysMost 125 = .ok (.iload_n 1, 1) := dk_27 (dk_at dksX6_laysMost_5 7 rfl rfl)
theorem dX6_laysMost_126 : decode cX6_laysMost 126 = .ok (.dup2, 1) := dk_92 (dk_at dksX6_laysMost_5 8 rfl rfl)
theorem dX6_laysMost_127 : decode cX6_laysMost 127 = .ok (.iaload, 1) := dk_46 (dk_at dksX6_laysMost_5 9 rfl rfl)
theorem dX6_laysMost_128 : decode cX6_laysMost 128 = .ok (.iconst 1, 1) := dk_4 (dk_at dksX6_laysMost_5 10 rfl rfl)
theorem dX6_laysMost_129 : decode cX6_laysMost 129 = .ok (.iadd, 1) := dk_96 (dk_at dksX6_laysMost_5 11 rfl rfl)
theorem dX6_laysMost_130 : decode cX6_laysMost 130 = .ok (.iastore, 1) := dk_79 (dk_at dksX6_laysMost_5 12 rfl rfl)
theorem dX6_laysMost_131 : decode cX6_laysMost 131 = .ok (.aload_n 0, 1) := dk_42 (dk_at dksX6_laysMost_5 13 rfl rfl)
theorem dX6_laysMost_132 : decode cX6_laysMost 132 = .ok (.iload_n 1, 1) := dk_27 (dk_at dksX6_laysMost_5 14 rfl rfl)
theorem dX6_laysMost_133 : decode cX6_laysMost 133 = .ok (.iconst 1, 1) := dk_4 (dk_at dksX6_laysMost_5 15 rfl rfl)
theorem dX6_laysMost_134 : decode cX6_laysMost 134 = .ok (.iadd, 1) := dk_96 (dk_at dksX6_laysMost_5 16 rfl rfl)
theorem dX6_laysMost_135 : decode cX6_laysMost 135 = .ok (.invokevirtual 201, 3) := dk_182 0 201 (dk_at dksX6_laysMost_5 17 rfl rfl)
theorem dX6_laysMost_138 : decode cX6_laysMost 138 = .ok (.goto (-39), 3) := dk_167 255 217 (dk_at dksX6_laysMost_5 20 rfl rfl)
theorem dX6_laysMost_141 : decode cX6_laysMost 141 = .ok (.iinc 1 1, 3) := dk_132 1 1 (dk_at dksX6_laysMost_6 0 rfl rfl)
theorem dX6_laysMost_144 : decode cX6_laysMost 144 = .ok (.goto (-67), 3) := dk_167 255 189 (dk_at dksX6_laysMost_6 3 rfl rfl)
theorem dX6_laysMost_147 : decode cX6_laysMost 147 = .ok (.return_, 1) := dk_177 (dk_at dksX6_laysMost_6 6 rfl rfl)
abbrev cX6_costTogether : ByteArray := prog_11_method_41_code
def yX6_costTogether : MethodName := ⟨RX6, "costTogether", "(II)I"⟩
def dkwX6_costTogether_11 : List UInt8 := [21, 4, 21, 5, 153, 0, 12, 42, 180, 0, 55, 3, 46, 167, 0, 4, 3, 96, 172]
abbrev dktX6_costTogether_11 : List UInt8 := dkwX6_costTogether_11 ++ []
def dkwX6_costTogether_10 : List UInt8 := [154, 0, 8, 21, 10, 153, 0, 6, 18, 188, 172, 132, 8, 1, 167, 255, 103, 132, 6, 1, 167, 255, 12]
abbrev dktX6_costTogether_10 : List UInt8 := dkwX6_costTogether_10 ++ dktX6_costTogether_11
def dkwX6_costTogether_9 : List UInt8 := [21, 6, 46, 42, 180, 0, 22, 21, 8, 46, 159, 0, 7, 4, 167, 0, 4, 3, 54, 10, 21, 9]
abbrev dktX6_costTogether_9 : List UInt8 := dkwX6_costTogether_9 ++ dktX6_costTogether_10
def dkwX6_costTogether_8 : List UInt8 := [4, 160, 0, 40, 42, 180, 0, 34, 42, 180, 0, 16, 21, 8, 46, 46, 4, 160, 0, 24, 42, 180, 0, 22]
abbrev dktX6_costTogether_8 : List UInt8 := dkwX6_costTogether_8 ++ dktX6_costTogether_9
def dkwX6_costTogether_7 : List UInt8 := [3, 54, 9, 27, 21, 8, 184, 0, 119, 153, 0, 56, 42, 180, 0, 34, 42, 180, 0, 16, 21, 6, 46, 46]
abbrev dktX6_costTogether_7 : List UInt8 := dkwX6_costTogether_7 ++ dktX6_costTogether_8
def dkwX6_costTogether_6 : List UInt8 := [160, 0, 24, 42, 180, 0, 19, 21, 6, 46, 42, 180, 0, 19, 21, 8, 46, 160, 0, 7, 4, 167, 0, 4]
abbrev dktX6_costTogether_6 : List UInt8 := dkwX6_costTogether_6 ++ dktX6_costTogether_7
def dkwX6_costTogether_5 : List UInt8 := [180, 0, 16, 21, 6, 46, 46, 4, 160, 0, 40, 42, 180, 0, 37, 42, 180, 0, 16, 21, 8, 46, 46, 4]
abbrev dktX6_costTogether_5 : List UInt8 := dkwX6_costTogether_5 ++ dktX6_costTogether_6
def dkwX6_costTogether_4 : List UInt8 := [54, 8, 21, 8, 21, 6, 162, 0, 152, 27, 21, 8, 184, 0, 119, 153, 0, 56, 42, 180, 0, 37, 42]
abbrev dktX6_costTogether_4 : List UInt8 := dkwX6_costTogether_4 ++ dktX6_costTogether_5
def dkwX6_costTogether_3 : List UInt8 := [21, 5, 154, 0, 13, 42, 21, 6, 28, 182, 0, 167, 153, 0, 7, 4, 167, 0, 4, 3, 54, 5, 3]
abbrev dktX6_costTogether_3 : List UInt8 := dkwX6_costTogether_3 ++ dktX6_costTogether_4
def dkwX6_costTogether_2 : List UInt8 := [29, 126, 153, 0, 6, 18, 188, 172, 29, 21, 7, 128, 62, 21, 4, 42, 21, 7, 182, 0, 182, 96, 54, 4]
abbrev dktX6_costTogether_2 : List UInt8 := dkwX6_costTogether_2 ++ dktX6_costTogether_3
def dkwX6_costTogether_1 : List UInt8 := [184, 0, 119, 153, 0, 226, 42, 21, 6, 28, 182, 0, 173, 54, 7, 21, 7, 16, 253, 159, 0, 10, 21, 7]
abbrev dktX6_costTogether_1 : List UInt8 := dkwX6_costTogether_1 ++ dktX6_costTogether_2
def dkwX6_costTogether_0 : List UInt8 := [3, 62, 3, 54, 4, 3, 54, 5, 3, 54, 6, 21, 6, 42, 180, 0, 107, 162, 0, 241, 27, 21, 6]
abbrev dktX6_costTogether_0 : List UInt8 := dkwX6_costTogether_0 ++ dktX6_costTogether_1
theorem dksX6_costTogether_0 : cX6_costTogether.data.toList.drop 0 = dktX6_costTogether_0 := by decide +kernel
theorem dksX6_costTogether_1 : cX6_costTogether.data.toList.drop 23 = dktX6_costTogether_1 := dk_seg dksX6_costTogether_0 23 rfl rfl
theorem dksX6_costTogether_2 : cX6_costTogether.data.toList.drop 47 = dktX6_costTogether_2 := dk_seg dksX6_costTogether_1 24 rfl rfl
theorem dksX6_costTogether_3 : cX6_costTogether.data.toList.drop 71 = dktX6_costTogether_3 := dk_seg dksX6_costTogether_2 24 rfl rfl
theorem dksX6_costTogether_4 : cX6_costTogether.data.toList.drop 94 = dktX6_costTogether_4 := dk_seg dksX6_costTogether_3 23 rfl rfl
theorem dksX6_costTogether_5 : cX6_costTogether.data.toList.drop 117 = dktX6_costTogether_5 := dk_seg dksX6_costTogether_4 23 rfl rfl
theorem dksX6_costTogether_6 : cX6_costTogether.data.toList.drop 141 = dktX6_costTogether_6 := dk_seg dksX6_costTogether_5 24 rfl rfl
theorem dksX6_costTogether_7 : cX6_costTogether.data.toList.drop 165 = dktX6_costTogether_7 := dk_seg dksX6_costTogether_6 24 rfl rfl
theorem dksX6_costTogether_8 : cX6_costTogether.data.toList.drop 189 = dktX6_costTogether_8 := dk_seg dksX6_costTogether_7 24 rfl rfl
theorem dksX6_costTogether_9 : cX6_costTogether.data.toList.drop 213 = dktX6_costTogether_9 := dk_seg dksX6_costTogether_8 24 rfl rfl
theorem dksX6_costTogether_10 : cX6_costTogether.data.toList.drop 235 = dktX6_costTogether_10 := dk_seg dksX6_costTogether_9 22 rfl rfl
theorem dksX6_costTogether_11 : cX6_costTogether.data.toList.drop 258 = dktX6_costTogether_11 := dk_seg dksX6_costTogether_10 23 rfl rfl
theorem dX6_costTogether_0 : decode cX6_costTogether 0 = .ok (.iconst 0, 1) := dk_3 (dk_at dksX6_costTogether_0 0 rfl rfl)
theorem dX6_costTogether_1 : decode cX6_costTogether 1 = .ok (.istore_n 3, 1) := dk_62 (dk_at dksX6_costTogether_0 1 rfl rfl)
theorem dX6_costTogether_2 : decode cX6_costTogether 2 = .ok (.iconst 0, 1) := dk_3 (dk_at dksX6_costTogether_0 2 rfl rfl)
theorem dX6_costTogether_3 : decode cX6_costTogether 3 = .ok (.istore 4, 2) := dk_54 4 (dk_at dksX6_costTogether_0 3 rfl rfl)
theorem dX6_costTogether_5 : decode cX6_costTogether 5 = .ok (.iconst 0, 1) := dk_3 (dk_at dksX6_costTogether_0 5 rfl rfl)
theorem dX6_costTogether_6 : decode cX6_costTogether 6 = .ok (.istore 5, 2) := dk_54 5 (dk_at dksX6_costTogether_0 6 rfl rfl)
theorem dX6_costTogether_8 : decode cX6_costTogether 8 = .ok (.iconst 0, 1) := dk_3 (dk_at dksX6_costTogether_0 8 rfl rfl)
theorem dX6_costTogether_9 : decode cX6_costTogether 9 = .ok (.istore 6, 2) := dk_54 6 (dk_at dksX6_costTogether_0 9 rfl rfl)
theorem dX6_costTogether_11 : decode cX6_costTogether 11 = .ok (.iload 6, 2) := dk_21 6 (dk_at dksX6_costTogether_0 11 rfl rfl)
theorem dX6_costTogether_13 : decode cX6_costTogether 13 = .ok (.aload_n 0, 1) := dk_42 (dk_at dksX6_costTogether_0 13 rfl rfl)
theorem dX6_costTogether_14 : decode cX6_costTogether 14 = .ok (.getfield 107, 3) := dk_180 0 107 (dk_at dksX6_costTogether_0 14 rfl rfl)
theorem dX6_costTogether_17 : decode cX6_costTogether 17 = .ok (.if_icmp .ge 241, 3) := dk_162 0 241 (dk_at dksX6_costTogether_0 17 rfl rfl)
theorem dX6_costTogether_20 : decode cX6_costTogether 20 = .ok (.iload_n 1, 1) := dk_27 (dk_at dksX6_costTogether_0 20 rfl rfl)
theorem dX6_costTogether_21 : decode cX6_costTogether 21 = .ok (.iload 6, 2) := dk_21 6 (dk_at dksX6_costTogether_0 21 rfl rfl)
theorem dX6_costTogether_23 : decode cX6_costTogether 23 = .ok (.invokestatic 119, 3) := dk_184 0 119 (dk_at dksX6_costTogether_1 0 rfl rfl)
theorem dX6_costTogether_26 : decode cX6_costTogether 26 = .ok (.ifCond .eq 226, 3) := dk_153 0 226 (dk_at dksX6_costTogether_1 3 rfl rfl)
theorem dX6_costTogether_29 : decode cX6_costTogether 29 = .ok (.aload_n 0, 1) := dk_42 (dk_at dksX6_costTogether_1 6 rfl rfl)
theorem dX6_costTogether_30 : decode cX6_costTogether 30 = .ok (.iload 6, 2) := dk_21 6 (dk_at dksX6_costTogether_1 7 rfl rfl)
theorem dX6_costTogether_32 : decode cX6_costTogether 32 = .ok (.iload_n 2, 1) := dk_28 (dk_at dksX6_costTogether_1 9 rfl rfl)
theorem dX6_costTogether_33 : decode cX6_costTogether 33 = .ok (.invokevirtual 173, 3) := dk_182 0 173 (dk_at dksX6_costTogether_1 10 rfl rfl)
theorem dX6_costTogether_36 : decode cX6_costTogether 36 = .ok (.istore 7, 2) := dk_54 7 (dk_at dksX6_costTogether_1 13 rfl rfl)
theorem dX6_costTogether_38 : decode cX6_costTogether 38 = .ok (.iload 7, 2) := dk_21 7 (dk_at dksX6_costTogether_1 15 rfl rfl)
theorem dX6_costTogether_40 : decode cX6_costTogether 40 = .ok (.bipush (-3), 2) := dk_16 253 (dk_at dksX6_costTogether_1 17 rfl rfl)
theorem dX6_costTogether_42 : decode cX6_costTogether 42 = .ok (.if_icmp .eq 10, 3) := dk_159 0 10 (dk_at dksX6_costTogether_1 19 rfl rfl)
theorem dX6_costTogether_45 : decode cX6_costTogether 45 = .ok (.iload 7, 2) := dk_21 7 (dk_at dksX6_costTogether_1 22 rfl rfl)
theorem dX6_costTogether_47 : decode cX6_costTogether 47 = .ok (.iload_n 3, 1) := dk_29 (dk_at dksX6_costTogether_2 0 rfl rfl)
theorem dX6_costTogether_48 : decode cX6_costTogether 48 = .ok (.iand, 1) := dk_126 (dk_at dksX6_costTogether_2 1 rfl rfl)
theorem dX6_costTogether_49 : decode cX6_costTogether 49 = .ok (.ifCond .eq 6, 3) := dk_153 0 6 (dk_at dksX6_costTogether_2 2 rfl rfl)
theorem dX6_costTogether_52 : decode cX6_costTogether 52 = .ok (.ldc 188, 2) := dk_18 188 (dk_at dksX6_costTogether_2 5 rfl rfl)
theorem dX6_costTogether_54 : decode cX6_costTogether 54 = .ok (.ireturn, 1) := dk_172 (dk_at dksX6_costTogether_2 7 rfl rfl)
theorem dX6_costTogether_55 : decode cX6_costTogether 55 = .ok (.iload_n 3, 1) := dk_29 (dk_at dksX6_costTogether_2 8 rfl rfl)
theorem dX6_costTogether_56 : decode cX6_costTogether 56 = .ok (.iload 7, 2) := dk_21 7 (dk_at dksX6_costTogether_2 9 rfl rfl)
theorem dX6_costTogether_58 : decode cX6_costTogether 58 = .ok (.ior, 1) := dk_128 (dk_at dksX6_costTogether_2 11 rfl rfl)
theorem dX6_costTogether_59 : decode cX6_costTogether 59 = .ok (.istore_n 3, 1) := dk_62 (dk_at dksX6_costTogether_2 12 rfl rfl)
theorem dX6_costTogether_60 : decode cX6_costTogether 60 = .ok (.iload 4, 2) := dk_21 4 (dk_at dksX6_costTogether_2 13 rfl rfl)
theorem dX6_costTogether_62 : decode cX6_costTogether 62 = .ok (.aload_n 0, 1) := dk_42 (dk_at dksX6_costTogether_2 15 rfl rfl)
theorem dX6_costTogether_63 : decode cX6_costTogether 63 = .ok (.iload 7, 2) := dk_21 7 (dk_at dksX6_costTogether_2 16 rfl rfl)
theorem dX6_costTogether_65 : decode cX6_costTogether 65 = .ok (.invokevirtual 182, 3) := dk_182 0 182 (dk_at dksX6_costTogether_2 18 rfl rfl)
theorem dX6_costTogether_68 : decode cX6_costTogether 68 = .ok (.iadd, 1) := dk_96 (dk_at dksX6_costTogether_2 21 rfl rfl)
theorem dX6_costTogether_69 : decode cX6_costTogether 69 = .ok (.istore 4, 2) := dk_54 4 (dk_at dksX6_costTogether_2 22 rfl rfl)
theorem dX6_costTogether_71 : decode cX6_costTogether 71 = .ok (.iload 5, 2) := dk_21 5 (dk_at dksX6_costTogether_3 0 rfl rfl)
theorem dX6_costTogether_73 : decode cX6_costTogether 73 = .ok (.ifCond .ne 13, 3) := dk_154 0 13 (dk_at dksX6_costTogether_3 2 rfl rfl)
theorem dX6_costTogether_76 : decode cX6_costTogether 76 = .ok (.aload_n 0, 1) := dk_42 (dk_at dksX6_costTogether_3 5 rfl rfl)
theorem dX6_costTogether_77 : decode cX6_costTogether 77 = .ok (.iload 6, 2) := dk_21 6 (dk_at dksX6_costTogether_3 6 rfl rfl)
theorem dX6_costTogether_79 : decode cX6_costTogether 79 = .ok (.iload_n 2, 1) := dk_28 (dk_at dksX6_costTogether_3 8 rfl rfl)
theorem dX6_costTogether_80 : decode cX6_costTogether 80 = .ok (.invokevirtual 167, 3) := dk_182 0 167 (dk_at dksX6_costTogether_3 9 rfl rfl)
theorem dX6_costTogether_83 : decode cX6_costTogether 83 = .ok (.ifCond .eq 7, 3) := dk_153 0 7 (dk_at dksX6_costTogether_3 12 rfl rfl)
theorem dX6_costTogether_86 : decode cX6_costTogether 86 = .ok (.iconst 1, 1) := dk_4 (dk_at dksX6_costTogether_3 15 rfl rfl)
theorem dX6_costTogether_87 : decode cX6_costTogether 87 = .ok (.goto 4, 3) := dk_167 0 4 (dk_at dksX6_costTogether_3 16 rfl rfl)
theorem dX6_costTogether_90 : decode cX6_costTogether 90 = .ok (.iconst 0, 1) := dk_3 (dk_at dksX6_costTogether_3 19 rfl rfl)
theorem dX6_costTogether_91 : decode cX6_costTogether 91 = .ok (.istore 5, 2) := dk_54 5 (dk_at dksX6_costTogether_3 20 rfl rfl)
theorem dX6_costTogether_93 : decode cX6_costTogether 93 = .ok (.iconst 0, 1) := dk_3 (dk_at dksX6_costTogether_3 22 rfl rfl)
theorem dX6_costTogether_94 : decode cX6_costTogether 94 = .ok (.istore 8, 2) := dk_54 8 (dk_at dksX6_costTogether_4 0 rfl rfl)
theorem dX6_costTogether_96 : decode cX6_costTogether 96 = .ok (.iload 8, 2) := dk_21 8 (dk_at dksX6_costTogether_4 2 rfl rfl)
theorem dX6_costTogether_98 : decode cX6_costTogether 98 = .ok (.iload 6, 2) := dk_21 6 (dk_at dksX6_costTogether_4 4 rfl rfl)
theorem dX6_costTogether_100 : decode cX6_costTogether 100 = .ok (.if_icmp .ge 152, 3) := dk_162 0 152 (dk_at dksX6_costTogether_4 6 rfl rfl)
theorem dX6_costTogether_103 : decode cX6_costTogether 103 = .ok (.iload_n 1, 1) := dk_27 (dk_at dksX6_costTogether_4 9 rfl rfl)
theorem dX6_costTogether_104 : decode cX6_costTogether 104 = .ok (.iload 8, 2) := dk_21 8 (dk_at dksX6_costTogether_4 10 rfl rfl)
theorem dX6_costTogether_106 : decode cX6_costTogether 106 = .ok (.invokestatic 119, 3) := dk_184 0 119 (dk_at dksX6_costTogether_4 12 rfl rfl)
theorem dX6_costTogether_109 : decode cX6_costTogether 109 = .ok (.ifCond .eq 56, 3) := dk_153 0 56 (dk_at dksX6_costTogether_4 15 rfl rfl)
theorem dX6_costTogether_112 : decode cX6_costTogether 112 = .ok (.aload_n 0, 1) := dk_42 (dk_at dksX6_costTogether_4 18 rfl rfl)
theorem dX6_costTogether_113 : decode cX6_costTogether 113 = .ok (.getfield 37, 3) := dk_180 0 37 (dk_at dksX6_costTogether_4 19 rfl rfl)
theorem dX6_costTogether_116 : decode cX6_costTogether 116 = .ok (.aload_n 0, 1) := dk_42 (dk_at dksX6_costTogether_4 22 rfl rfl)
theorem dX6_costTogether_117 : decode cX6_costTogether 117 = .ok (.getfield 16, 3) := dk_180 0 16 (dk_at dksX6_costTogether_5 0 rfl rfl)
theorem dX6_costTogether_120 : decode cX6_costTogether 120 = .ok (.iload 6, 2) := dk_21 6 (dk_at dksX6_costTogether_5 3 rfl rfl)
theorem dX6_costTogether_122 : decode cX6_costTogether 122 = .ok (.iaload, 1) := dk_46 (dk_at dksX6_costTogether_5 5 rfl rfl)
theorem dX6_costTogether_123 : decode cX6_costTogether 123 = .ok (.iaload, 1) := dk_46 (dk_at dksX6_costTogether_5 6 rfl rfl)
theorem dX6_costTogether_124 : decode cX6_costTogether 124 = .ok (.iconst 1, 1) := dk_4 (dk_at dksX6_costTogether_5 7 rfl rfl)
theorem dX6_costTogether_125 : decode cX6_costTogether 125 = .ok (.if_icmp .ne 40, 3) := dk_160 0 40 (dk_at dksX6_costTogether_5 8 rfl rfl)
theorem dX6_costTogether_128 : decode cX6_costTogether 128 = .ok (.aload_n 0, 1) := dk_42 (dk_at dksX6_costTogether_5 11 rfl rfl)
theorem dX6_costTogether_129 : decode cX6_costTogether 129 = .ok (.getfield 37, 3) := dk_180 0 37 (dk_at dksX6_costTogether_5 12 rfl rfl)
theorem dX6_costTogether_132 : decode cX6_costTogether 132 = .ok (.aload_n 0, 1) := dk_42 (dk_at dksX6_costTogether_5 15 rfl rfl)
theorem dX6_costTogether_133 : decode cX6_costTogether 133 = .ok (.getfield 16, 3) := dk_180 0 16 (dk_at dksX6_costTogether_5 16 rfl rfl)
theorem dX6_costTogether_136 : decode cX6_costTogether 136 = .ok (.iload 8, 2) := dk_21 8 (dk_at dksX6_costTogether_5 19 rfl rfl)
theorem dX6_costTogether_138 : decode cX6_costTogether 138 = .ok (.iaload, 1) := dk_46 (dk_at dksX6_costTogether_5 21 rfl rfl)
theorem dX6_costTogether_139 : decode cX6_costTogether 139 = .ok (.iaload, 1) := dk_46 (dk_at dksX6_costTogether_5 22 rfl rfl)
theorem dX6_costTogether_140 : decode cX6_costTogether 140 = .ok (.iconst 1, 1) := dk_4 (dk_at dksX6_costTogether_5 23 rfl rfl)
theorem dX6_costTogether_141 : decode cX6_costTogether 141 = .ok (.if_icmp .ne 24, 3) := dk_160 0 24 (dk_at dksX6_costTogether_6 0 rfl rfl)
theorem dX6_costTogether_144 : decode cX6_costTogether 144 = .ok (.aload_n 0, 1) := dk_42 (dk_at dksX6_costTogether_6 3 rfl rfl)
theorem dX6_costTogether_145 : decode cX6_costTogether 145 = .ok (.getfield 19, 3) := dk_180 0 19 (dk_at dksX6_costTogether_6 4 rfl rfl)
theorem dX6_costTogether_148 : decode cX6_costTogether 148 = .ok (.iload 6, 2) := dk_21 6 (dk_at dksX6_costTogether_6 7 rfl rfl)
theorem dX6_costTogether_150 : decode cX6_costTogether 150 = .ok (.iaload, 1) := dk_46 (dk_at dksX6_costTogether_6 9 rfl rfl)
theorem dX6_costTogether_151 : decode cX6_costTogether 151 = .ok (.aload_n 0, 1) := dk_42 (dk_at dksX6_costTogether_6 10 rfl rfl)
theorem dX6_costTogether_152 : decode cX6_costTogether 152 = .ok (.getfield 19, 3) := dk_180 0 19 (dk_at dksX6_costTogether_6 11 rfl rfl)
theorem dX6_costTogether_155 : decode cX6_costTogether 155 = .ok (.iload 8, 2) := dk_21 8 (dk_at dksX6_costTogether_6 14 rfl rfl)
theorem dX6_costTogether_157 : decode cX6_costTogether 157 = .ok (.iaload, 1) := dk_46 (dk_at dksX6_costTogether_6 16 rfl rfl)
theorem dX6_costTogether_158 : decode cX6_costTogether 158 = .ok (.if_icmp .ne 7, 3) := dk_160 0 7 (dk_at dksX6_costTogether_6 17 rfl rfl)
theorem dX6_costTogether_161 : decode cX6_costTogether 161 = .ok (.iconst 1, 1) := dk_4 (dk_at dksX6_costTogether_6 20 rfl rfl)
theorem dX6_costTogether_162 : decode cX6_costTogether 162 = .ok (.goto 4, 3) := dk_167 0 4 (dk_at dksX6_costTogether_6 21 rfl rfl)
theorem dX6_costTogether_165 : decode cX6_costTogether 165 = .ok (.iconst 0, 1) := dk_3 (dk_at dksX6_costTogether_7 0 rfl rfl)
theorem dX6_costTogether_166 : decode cX6_costTogether 166 = .ok (.istore 9, 2) := dk_54 9 (dk_at dksX6_costTogether_7 1 rfl rfl)
theorem dX6_costTogether_168 : decode cX6_costTogether 168 = .ok (.iload_n 1, 1) := dk_27 (dk_at dksX6_costTogether_7 3 rfl rfl)
theorem dX6_costTogether_169 : decode cX6_costTogether 169 = .ok (.iload 8, 2) := dk_21 8 (dk_at dksX6_costTogether_7 4 rfl rfl)
theorem dX6_costTogether_171 : decode cX6_costTogether 171 = .ok (.invokestatic 119, 3) := dk_184 0 119 (dk_at dksX6_costTogether_7 6 rfl rfl)
theorem dX6_costTogether_174 : decode cX6_costTogether 174 = .ok (.ifCond .eq 56, 3) := dk_153 0 56 (dk_at dksX6_costTogether_7 9 rfl rfl)
theorem dX6_costTogether_177 : decode cX6_costTogether 177 = .ok (.aload_n 0, 1) := dk_42 (dk_at dksX6_costTogether_7 12 rfl rfl)
theorem dX6_costTogether_178 : decode cX6_costTogether 178 = .ok (.getfield 34, 3) := dk_180 0 34 (dk_at dksX6_costTogether_7 13 rfl rfl)
theorem dX6_costTogether_181 : decode cX6_costTogether 181 = .ok (.aload_n 0, 1) := dk_42 (dk_at dksX6_costTogether_7 16 rfl rfl)
theorem dX6_costTogether_182 : decode cX6_costTogether 182 = .ok (.getfield 16, 3) := dk_180 0 16 (dk_at dksX6_costTogether_7 17 rfl rfl)
theorem dX6_costTogether_185 : decode cX6_costTogether 185 = .ok (.iload 6, 2) := dk_21 6 (dk_at dksX6_costTogether_7 20 rfl rfl)
theorem dX6_costTogether_187 : decode cX6_costTogether 187 = .ok (.iaload, 1) := dk_46 (dk_at dksX6_costTogether_7 22 rfl rfl)
theorem dX6_costTogether_188 : decode cX6_costTogether 188 = .ok (.iaload, 1) := dk_46 (dk_at dksX6_costTogether_7 23 rfl rfl)
theorem dX6_costTogether_189 : decode cX6_costTogether 189 = .ok (.iconst 1, 1) := dk_4 (dk_at dksX6_costTogether_8 0 rfl rfl)
theorem dX6_costTogether_190 : decode cX6_costTogether 190 = .ok (.if_icmp .ne 40, 3) := dk_160 0 40 (dk_at dksX6_costTogether_8 1 rfl rfl)
theorem dX6_costTogether_193 : decode cX6_costTogether 193 = .ok (.aload_n 0, 1) := dk_42 (dk_at dksX6_costTogether_8 4 rfl rfl)
theorem dX6_costTogether_194 : decode cX6_costTogether 194 = .ok (.getfield 34, 3) := dk_180 0 34 (dk_at dksX6_costTogether_8 5 rfl rfl)
theorem dX6_costTogether_197 : decode cX6_costTogether 197 = .ok (.aload_n 0, 1) := dk_42 (dk_at dksX6_costTogether_8 8 rfl rfl)
theorem dX6_costTogether_198 : decode cX6_costTogether 198 = .ok (.getfield 16, 3) := dk_180 0 16 (dk_at dksX6_costTogether_8 9 rfl rfl)
theorem dX6_costTogether_201 : decode cX6_costTogether 201 = .ok (.iload 8, 2) := dk_21 8 (dk_at dksX6_costTogether_8 12 rfl rfl)
theorem dX6_costTogether_203 : decode cX6_costTogether 203 = .ok (.iaload, 1) := dk_46 (dk_at dksX6_costTogether_8 14 rfl rfl)
theorem dX6_costTogether_204 : decode cX6_costTogether 204 = .ok (.iaload, 1) := dk_46 (dk_at dksX6_costTogether_8 15 rfl rfl)
theorem dX6_costTogether_205 : decode cX6_costTogether 205 = .ok (.iconst 1, 1) := dk_4 (dk_at dksX6_costTogether_8 16 rfl rfl)
theorem dX6_costTogether_206 : decode cX6_costTogether 206 = .ok (.if_icmp .ne 24, 3) := dk_160 0 24 (dk_at dksX6_costTogether_8 17 rfl rfl)
theorem dX6_costTogether_209 : decode cX6_costTogether 209 = .ok (.aload_n 0, 1) := dk_42 (dk_at dksX6_costTogether_8 20 rfl rfl)
theorem dX6_costTogether_210 : decode cX6_costTogether 210 = .ok (.getfield 22, 3) := dk_180 0 22 (dk_at dksX6_costTogether_8 21 rfl rfl)
theorem dX6_costTogether_213 : decode cX6_costTogether 213 = .ok (.iload 6, 2) := dk_21 6 (dk_at dksX6_costTogether_9 0 rfl rfl)
theorem dX6_costTogether_215 : decode cX6_costTogether 215 = .ok (.iaload, 1) := dk_46 (dk_at dksX6_costTogether_9 2 rfl rfl)
theorem dX6_costTogether_216 : decode cX6_costTogether 216 = .ok (.aload_n 0, 1) := dk_42 (dk_at dksX6_costTogether_9 3 rfl rfl)
theorem dX6_costTogether_217 : decode cX6_costTogether 217 = .ok (.getfield 22, 3) := dk_180 0 22 (dk_at dksX6_costTogether_9 4 rfl rfl)
theorem dX6_costTogether_220 : decode cX6_costTogether 220 = .ok (.iload 8, 2) := dk_21 8 (dk_at dksX6_costTogether_9 7 rfl rfl)
theorem dX6_costTogether_222 : decode cX6_costTogether 222 = .ok (.iaload, 1) := dk_46 (dk_at dksX6_costTogether_9 9 rfl rfl)
theorem dX6_costTogether_223 : decode cX6_costTogether 223 = .ok (.if_icmp .eq 7, 3) := dk_159 0 7 (dk_at dksX6_costTogether_9 10 rfl rfl)
theorem dX6_costTogether_226 : decode cX6_costTogether 226 = .ok (.iconst 1, 1) := dk_4 (dk_at dksX6_costTogether_9 13 rfl rfl)
theorem dX6_costTogether_227 : decode cX6_costTogether 227 = .ok (.goto 4, 3) := dk_167 0 4 (dk_at dksX6_costTogether_9 14 rfl rfl)
theorem dX6_costTogether_230 : decode cX6_costTogether 230 = .ok (.iconst 0, 1) := dk_3 (dk_at dksX6_costTogether_9 17 rfl rfl)
theorem dX6_costTogether_231 : decode cX6_costTogether 231 = .ok (.istore 10, 2) := dk_54 10 (dk_at dksX6_costTogether_9 18 rfl rfl)
theorem dX6_costTogether_233 : decode cX6_costTogether 233 = .ok (.iload 9, 2) := dk_21 9 (dk_at dksX6_costTogether_9 20 rfl rfl)
theorem dX6_costTogether_235 : decode cX6_costTogether 235 = .ok (.ifCond .ne 8, 3) := dk_154 0 8 (dk_at dksX6_costTogether_10 0 rfl rfl)
theorem dX6_costTogether_238 : decode cX6_costTogether 238 = .ok (.iload 10, 2) := dk_21 10 (dk_at dksX6_costTogether_10 3 rfl rfl)
theorem dX6_costTogether_240 : decode cX6_costTogether 240 = .ok (.ifCond .eq 6, 3) := dk_153 0 6 (dk_at dksX6_costTogether_10 5 rfl rfl)
theorem dX6_costTogether_243 : decode cX6_costTogether 243 = .ok (.ldc 188, 2) := dk_18 188 (dk_at dksX6_costTogether_10 8 rfl rfl)
theorem dX6_costTogether_245 : decode cX6_costTogether 245 = .ok (.ireturn, 1) := dk_172 (dk_at dksX6_costTogether_10 10 rfl rfl)
theorem dX6_costTogether_246 : decode cX6_costTogether 246 = .ok (.iinc 8 1, 3) := dk_132 8 1 (dk_at dksX6_costTogether_10 11 rfl rfl)
theorem dX6_costTogether_249 : decode cX6_costTogether 249 = .ok (.goto (-153), 3) := dk_167 255 103 (dk_at dksX6_costTogether_10 14 rfl rfl)
theorem dX6_costTogether_252 : decode cX6_costTogether 252 = .ok (.iinc 6 1, 3) := dk_132 6 1 (dk_at dksX6_costTogether_10 17 rfl rfl)
theorem dX6_costTogether_255 : decode cX6_costTogether 255 = .ok (.goto (-244), 3) := dk_167 255 12 (dk_at dksX6_costTogether_10 20 rfl rfl)
theorem dX6_costTogether_258 : decode cX6_costTogether 258 = .ok (.iload 4, 2) := dk_21 4 (dk_at dksX6_costTogether_11 0 rfl rfl)
theorem dX6_costTogether_260 : decode cX6_costTogether 260 = .ok (.iload 5, 2) := dk_21 5 (dk_at dksX6_costTogether_11 2 rfl rfl)
theorem dX6_costTogether_262 : decode cX6_costTogether 262 = .ok (.ifCond .eq 12, 3) := dk_153 0 12 (dk_at dksX6_costTogether_11 4 rfl rfl)
theorem dX6_costTogether_265 : decode cX6_costTogether 265 = .ok (.aload_n 0, 1) := dk_42 (dk_at dksX6_costTogether_11 7 rfl rfl)
theorem dX6_costTogether_266 : decode cX6_costTogether 266 = .ok (.getfield 55, 3) := dk_180 0 55 (dk_at dksX6_costTogether_11 8 rfl rfl)
theorem dX6_costTogether_269 : decode cX6_costTogether 269 = .ok (.iconst 0, 1) := dk_3 (dk_at dksX6_costTogether_11 11 rfl rfl)
theorem dX6_costTogether_270 : decode cX6_costTogether 270 = .ok (.iaload, 1) := dk_46 (dk_at dksX6_costTogether_11 12 rfl rfl)
theorem dX6_costTogether_271 : decode cX6_costTogether 271 = .ok (.goto 4, 3) := dk_167 0 4 (dk_at dksX6_costTogether_11 13 rfl rfl)
theorem dX6_costTogether_274 : decode cX6_costTogether 274 = .ok (.iconst 0, 1) := dk_3 (dk_at dksX6_costTogether_11 16 rfl rfl)
theorem dX6_costTogether_275 : decode cX6_costTogether 275 = .ok (.iadd, 1) := dk_96 (dk_at dksX6_costTogether_11 17 rfl rfl)
theorem dX6_costTogether_276 : decode cX6_costTogether 276 = .ok (.ireturn, 1) := dk_172 (dk_at dksX6_costTogether_11 18 rfl rfl)
abbrev cX6_bestOf : ByteArray := prog_11_method_43_code
def yX6_bestOf : MethodName := ⟨RX6, "bestOf", "(I)V"⟩
def dkwX6_bestOf_19 : List UInt8 := [132, 3, 1, 167, 255, 148, 177]
abbrev dktX6_bestOf_19 : List UInt8 := dkwX6_bestOf_19 ++ []
def dkwX6_bestOf_18 : List UInt8 := [42, 21, 5, 153, 0, 12, 42, 180, 0, 61, 29, 46, 167, 0, 7, 42, 180, 0, 192, 181, 0, 192]
abbrev dktX6_bestOf_18 : List UInt8 := dkwX6_bestOf_18 ++ dktX6_bestOf_19
def dkwX6_bestOf_17 : List UInt8 := [167, 0, 4, 3, 54, 5, 42, 21, 5, 153, 0, 8, 21, 4, 167, 0, 7, 42, 180, 0, 189, 181, 0, 189]
abbrev dktX6_bestOf_17 : List UInt8 := dkwX6_bestOf_17 ++ dktX6_bestOf_18
def dkwX6_bestOf_16 : List UInt8 := [21, 4, 42, 180, 0, 189, 160, 0, 20, 42, 180, 0, 61, 29, 46, 42, 180, 0, 192, 162, 0, 7, 4]
abbrev dktX6_bestOf_16 : List UInt8 := dkwX6_bestOf_16 ++ dktX6_bestOf_17
def dkwX6_bestOf_15 : List UInt8 := [180, 0, 61, 29, 46, 42, 180, 0, 55, 5, 46, 163, 0, 38, 21, 4, 42, 180, 0, 189, 163, 0, 25]
abbrev dktX6_bestOf_15 : List UInt8 := dkwX6_bestOf_15 ++ dktX6_bestOf_16
def dkwX6_bestOf_14 : List UInt8 := [181, 0, 189, 42, 3, 181, 0, 192, 3, 62, 29, 28, 163, 0, 109, 42, 29, 182, 0, 195, 54, 4, 42]
abbrev dktX6_bestOf_14 : List UInt8 := dkwX6_bestOf_14 ++ dktX6_bestOf_15
def dkwX6_bestOf_13 : List UInt8 := [21, 6, 42, 180, 0, 64, 21, 6, 46, 79, 132, 6, 1, 167, 255, 233, 132, 3, 1, 167, 254, 229, 42, 2]
abbrev dktX6_bestOf_13 : List UInt8 := dkwX6_bestOf_13 ++ dktX6_bestOf_14
def dkwX6_bestOf_12 : List UInt8 := [54, 7, 167, 255, 116, 132, 6, 1, 167, 255, 88, 3, 54, 6, 21, 6, 28, 163, 0, 23, 42, 180, 0, 61]
abbrev dktX6_bestOf_12 : List UInt8 := dkwX6_bestOf_12 ++ dktX6_bestOf_13
def dkwX6_bestOf_11 : List UInt8 := [21, 6, 46, 79, 21, 7, 153, 0, 7, 4, 167, 0, 4, 3, 54, 8, 21, 7, 4, 100, 21, 6, 126]
abbrev dktX6_bestOf_11 : List UInt8 := dkwX6_bestOf_11 ++ dktX6_bestOf_12
def dkwX6_bestOf_10 : List UInt8 := [21, 6, 21, 9, 42, 180, 0, 64, 21, 6, 46, 162, 0, 8, 21, 9, 167, 0, 10, 42, 180, 0, 64]
abbrev dktX6_bestOf_10 : List UInt8 := dkwX6_bestOf_10 ++ dktX6_bestOf_11
def dkwX6_bestOf_9 : List UInt8 := [2, 130, 126, 46, 42, 180, 0, 58, 17, 1, 0, 29, 104, 21, 7, 96, 46, 96, 54, 9, 42, 180, 0, 64]
abbrev dktX6_bestOf_9 : List UInt8 := dkwX6_bestOf_9 ++ dktX6_bestOf_10
def dkwX6_bestOf_8 : List UInt8 := [180, 0, 61, 21, 6, 21, 7, 2, 130, 126, 46, 18, 188, 162, 0, 62, 42, 180, 0, 61, 21, 6, 21, 7]
abbrev dktX6_bestOf_8 : List UInt8 := dkwX6_bestOf_8 ++ dktX6_bestOf_9
def dkwX6_bestOf_7 : List UInt8 := [154, 0, 97, 42, 180, 0, 58, 17, 1, 0, 29, 104, 21, 7, 96, 46, 18, 188, 162, 0, 79, 42]
abbrev dktX6_bestOf_7 : List UInt8 := dkwX6_bestOf_7 ++ dktX6_bestOf_8
def dkwX6_bestOf_6 : List UInt8 := [21, 8, 153, 0, 141, 21, 7, 21, 4, 126, 21, 4, 160, 0, 107, 21, 7, 21, 5, 2, 130, 126]
abbrev dktX6_bestOf_6 : List UInt8 := dkwX6_bestOf_6 ++ dktX6_bestOf_7
def dkwX6_bestOf_5 : List UInt8 := [54, 6, 21, 6, 28, 163, 0, 168, 42, 180, 0, 64, 21, 6, 18, 188, 79, 21, 6, 54, 7, 4, 54, 8]
abbrev dktX6_bestOf_5 : List UInt8 := dkwX6_bestOf_5 ++ dktX6_bestOf_6
def dkwX6_bestOf_4 : List UInt8 := [29, 160, 0, 7, 28, 167, 0, 9, 4, 21, 6, 120, 2, 130, 126, 54, 5, 132, 6, 1, 167, 255, 197, 3]
abbrev dktX6_bestOf_4 : List UInt8 := dkwX6_bestOf_4 ++ dktX6_bestOf_5
def dkwX6_bestOf_3 : List UInt8 := [29, 160, 0, 10, 4, 21, 6, 120, 167, 0, 4, 3, 128, 54, 4, 21, 5, 42, 180, 0, 67, 21, 6, 46]
abbrev dktX6_bestOf_3 : List UInt8 := dkwX6_bestOf_3 ++ dktX6_bestOf_4
def dkwX6_bestOf_2 : List UInt8 := [3, 54, 4, 28, 54, 5, 3, 54, 6, 21, 6, 27, 162, 0, 59, 21, 4, 42, 180, 0, 67, 21, 6, 46]
abbrev dktX6_bestOf_2 : List UInt8 := dkwX6_bestOf_2 ++ dktX6_bestOf_3
def dkwX6_bestOf_1 : List UInt8 := [154, 0, 7, 3, 167, 0, 5, 18, 188, 79, 132, 3, 1, 167, 255, 232, 3, 62, 29, 16, 8, 162, 1, 27]
abbrev dktX6_bestOf_1 : List UInt8 := dkwX6_bestOf_1 ++ dktX6_bestOf_2
def dkwX6_bestOf_0 : List UInt8 := [4, 42, 180, 0, 107, 120, 4, 100, 61, 3, 62, 29, 28, 163, 0, 25, 42, 180, 0, 61, 29, 29]
abbrev dktX6_bestOf_0 : List UInt8 := dkwX6_bestOf_0 ++ dktX6_bestOf_1
theorem dksX6_bestOf_0 : cX6_bestOf.data.toList.drop 0 = dktX6_bestOf_0 := by decide +kernel
theorem dksX6_bestOf_1 : cX6_bestOf.data.toList.drop 22 = dktX6_bestOf_1 := dk_seg dksX6_bestOf_0 22 rfl rfl
theorem dksX6_bestOf_2 : cX6_bestOf.data.toList.drop 46 = dktX6_bestOf_2 := dk_seg dksX6_bestOf_1 24 rfl rfl
theorem dksX6_bestOf_3 : cX6_bestOf.data.toList.drop 70 = dktX6_bestOf_3 := dk_seg dksX6_bestOf_2 24 rfl rfl
theorem dksX6_bestOf_4 : cX6_bestOf.data.toList.drop 94 = dktX6_bestOf_4 := dk_seg dksX6_bestOf_3 24 rfl rfl
theorem dksX6_bestOf_5 : cX6_bestOf.data.toList.drop 118 = dktX6_bestOf_5 := dk_seg dksX6_bestOf_4 24 rfl rfl
theorem dksX6_bestOf_6 : cX6_bestOf.data.toList.drop 142 = dktX6_bestOf_6 := dk_seg dksX6_bestOf_5 24 rfl rfl
theorem dksX6_bestOf_7 : cX6_bestOf.data.toList.drop 164 = dktX6_bestOf_7 := dk_seg dksX6_bestOf_6 22 rfl rfl
theorem dksX6_bestOf_8 : cX6_bestOf.data.toList.drop 186 = dktX6_bestOf_8 := dk_seg dksX6_bestOf_7 22 rfl rfl
theorem dksX6_bestOf_9 : cX6_bestOf.data.toList.drop 210 = dktX6_bestOf_9 := dk_seg dksX6_bestOf_8 24 rfl rfl
theorem dksX6_bestOf_10 : cX6_bestOf.data.toList.drop 234 = dktX6_bestOf_10 := dk_seg dksX6_bestOf_9 24 rfl rfl
theorem dksX6_bestOf_11 : cX6_bestOf.data.toList.drop 257 = dktX6_bestOf_11 := dk_seg dksX6_bestOf_10 23 rfl rfl
theorem dksX6_bestOf_12 : cX6_bestOf.data.toList.drop 280 = dktX6_bestOf_12 := dk_seg dksX6_bestOf_11 23 rfl rfl
theorem dksX6_bestOf_13 : cX6_bestOf.data.toList.drop 304 = dktX6_bestOf_13 := dk_seg dksX6_bestOf_12 24 rfl rfl
theorem dksX6_bestOf_14 : cX6_bestOf.data.toList.drop 328 = dktX6_bestOf_14 := dk_seg dksX6_bestOf_13 24 rfl rfl
theorem dksX6_bestOf_15 : cX6_bestOf.data.toList.drop 351 = dktX6_bestOf_15 := dk_seg dksX6_bestOf_14 23 rfl rfl
theorem dksX6_bestOf_16 : cX6_bestOf.data.toList.drop 374 = dktX6_bestOf_16 := dk_seg dksX6_bestOf_15 23 rfl rfl
theorem dksX6_bestOf_17 : cX6_bestOf.data.toList.drop 397 = dktX6_bestOf_17 := dk_seg dksX6_bestOf_16 23 rfl rfl
theorem dksX6_bestOf_18 : cX6_bestOf.data.toList.drop 421 = dktX6_bestOf_18 := dk_seg dksX6_bestOf_17 24 rfl rfl
theorem dksX6_bestOf_19 : cX6_bestOf.data.toList.drop 443 = dktX6_bestOf_19 := dk_seg dksX6_bestOf_18 22 rfl rfl
theorem dX6_bestOf_0 : decode cX6_bestOf 0 = .ok (.iconst 1, 1) := dk_4 (dk_at dksX6_bestOf_0 0 rfl rfl)
theorem dX6_bestOf_1 : decode cX6_bestOf 1 = .ok (.aload_n 0, 1) := dk_42 (dk_at dksX6_bestOf_0 1 rfl rfl)
theorem dX6_bestOf_2 : decode cX6_bestOf 2 = .ok (.getfield 107, 3) := dk_180 0 107 (dk_at dksX6_bestOf_0 2 rfl rfl)
theorem dX6_bestOf_5 : decode cX6_bestOf 5 = .ok (.ishl, 1) := dk_120 (dk_at dksX6_bestOf_0 5 rfl rfl)
theorem dX6_bestOf_6 : decode cX6_bestOf 6 = .ok (.iconst 1, 1) := dk_4 (dk_at dksX6_bestOf_0 6 rfl rfl)
theorem dX6_bestOf_7 : decode cX6_bestOf 7 = .ok (.isub, 1) := dk_100 (dk_at dksX6_bestOf_0 7 rfl rfl)
theorem dX6_bestOf_8 : decode cX6_bestOf 8 = .ok (.istore_n 2, 1) := dk_61 (dk_at dksX6_bestOf_0 8 rfl rfl)
theorem dX6_bestOf_9 : decode cX6_bestOf 9 = .ok (.iconst 0, 1) := dk_3 (dk_at dksX6_bestOf_0 9 rfl rfl)
theorem dX6_bestOf_10 : decode cX6_bestOf 10 = .ok (.istore_n 3, 1) := dk_62 (dk_at dksX6_bestOf_0 10 rfl rfl)
theorem dX6_bestOf_11 : decode cX6_bestOf 11 = .ok (.iload_n 3, 1) := dk_29 (dk_at dksX6_bestOf_0 11 rfl rfl)
theorem dX6_bestOf_12 : decode cX6_bestOf 12 = .ok (.iload_n 2, 1) := dk_28 (dk_at dksX6_bestOf_0 12 rfl rfl)
theorem dX6_bestOf_13 : decode cX6_bestOf 13 = .ok (.if_icmp .gt 25, 3) := dk_163 0 25 (dk_at dksX6_bestOf_0 13 rfl rfl)
theorem dX6_bestOf_16 : decode cX6_bestOf 16 = .ok (.aload_n 0, 1) := dk_42 (dk_at dksX6_bestOf_0 16 rfl rfl)
theorem dX6_bestOf_17 : decode cX6_bestOf 17 = .ok (.getfield 61, 3) := dk_180 0 61 (dk_at dksX6_bestOf_0 17 rfl rfl)
theorem dX6_bestOf_20 : decode cX6_bestOf 20 = .ok (.iload_n 3, 1) := dk_29 (dk_at dksX6_bestOf_0 20 rfl rfl)
theorem dX6_bestOf_21 : decode cX6_bestOf 21 = .ok (.iload_n 3, 1) := dk_29 (dk_at dksX6_bestOf_0 21 rfl rfl)
theorem dX6_bestOf_22 : decode cX6_bestOf 22 = .ok (.ifCond .ne 7, 3) := dk_154 0 7 (dk_at dksX6_bestOf_1 0 rfl rfl)
theorem dX6_bestOf_25 : decode cX6_bestOf 25 = .ok (.iconst 0, 1) := dk_3 (dk_at dksX6_bestOf_1 3 rfl rfl)
theorem dX6_bestOf_26 : decode cX6_bestOf 26 = .ok (.goto 5, 3) := dk_167 0 5 (dk_at dksX6_bestOf_1 4 rfl rfl)
theorem dX6_bestOf_29 : decode cX6_bestOf 29 = .ok (.ldc 188, 2) := dk_18 188 (dk_at dksX6_bestOf_1 7 rfl rfl)
theorem dX6_bestOf_31 : decode cX6_bestOf 31 = .ok (.iastore, 1) := dk_79 (dk_at dksX6_bestOf_1 9 rfl rfl)
theorem dX6_bestOf_32 : decode cX6_bestOf 32 = .ok (.iinc 3 1, 3) := dk_132 3 1 (dk_at dksX6_bestOf_1 10 rfl rfl)
theorem dX6_bestOf_35 : decode cX6_bestOf 35 = .ok (.goto (-24), 3) := dk_167 255 232 (dk_at dksX6_bestOf_1 13 rfl rfl)
theorem dX6_bestOf_38 : decode cX6_bestOf 38 = .ok (.iconst 0, 1) := dk_3 (dk_at dksX6_bestOf_1 16 rfl rfl)
theorem dX6_bestOf_39 : decode cX6_bestOf 39 = .ok (.istore_n 3, 1) := dk_62 (dk_at dksX6_bestOf_1 17 rfl rfl)
theorem dX6_bestOf_40 : decode cX6_bestOf 40 = .ok (.iload_n 3, 1) := dk_29 (dk_at dksX6_bestOf_1 18 rfl rfl)
theorem dX6_bestOf_41 : decode cX6_bestOf 41 = .ok (.bipush 8, 2) := dk_16 8 (dk_at dksX6_bestOf_1 19 rfl rfl)
theorem dX6_bestOf_43 : decode cX6_bestOf 43 = .ok (.if_icmp .ge 283, 3) := dk_162 1 27 (dk_at dksX6_bestOf_1 21 rfl rfl)
theorem dX6_bestOf_46 : decode cX6_bestOf 46 = .ok (.iconst 0, 1) := dk_3 (dk_at dksX6_bestOf_2 0 rfl rfl)
theorem dX6_bestOf_47 : decode cX6_bestOf 47 = .ok (.istore 4, 2) := dk_54 4 (dk_at dksX6_bestOf_2 1 rfl rfl)
theorem dX6_bestOf_49 : decode cX6_bestOf 49 = .ok (.iload_n 2, 1) := dk_28 (dk_at dksX6_bestOf_2 3 rfl rfl)
theorem dX6_bestOf_50 : decode cX6_bestOf 50 = .ok (.istore 5, 2) := dk_54 5 (dk_at dksX6_bestOf_2 4 rfl rfl)
theorem dX6_bestOf_52 : decode cX6_bestOf 52 = .ok (.iconst 0, 1) := dk_3 (dk_at dksX6_bestOf_2 6 rfl rfl)
theorem dX6_bestOf_53 : decode cX6_bestOf 53 = .ok (.istore 6, 2) := dk_54 6 (dk_at dksX6_bestOf_2 7 rfl rfl)
theorem dX6_bestOf_55 : decode cX6_bestOf 55 = .ok (.iload 6, 2) := dk_21 6 (dk_at dksX6_bestOf_2 9 rfl rfl)
theorem dX6_bestOf_57 : decode cX6_bestOf 57 = .ok (.iload_n 1, 1) := dk_27 (dk_at dksX6_bestOf_2 11 rfl rfl)
theorem dX6_bestOf_58 : decode cX6_bestOf 58 = .ok (.if_icmp .ge 59, 3) := dk_162 0 59 (dk_at dksX6_bestOf_2 12 rfl rfl)
theorem dX6_bestOf_61 : decode cX6_bestOf 61 = .ok (.iload 4, 2) := dk_21 4 (dk_at dksX6_bestOf_2 15 rfl rfl)
theorem dX6_bestOf_63 : decode cX6_bestOf 63 = .ok (.aload_n 0, 1) := dk_42 (dk_at dksX6_bestOf_2 17 rfl rfl)
theorem dX6_bestOf_64 : decode cX6_bestOf 64 = .ok (.getfield 67, 3) := dk_180 0 67 (dk_at dksX6_bestOf_2 18 rfl rfl)
theorem dX6_bestOf_67 : decode cX6_bestOf 67 = .ok (.iload 6, 2) := dk_21 6 (dk_at dksX6_bestOf_2 21 rfl rfl)
theorem dX6_bestOf_69 : decode cX6_bestOf 69 = .ok (.iaload, 1) := dk_46 (dk_at dksX6_bestOf_2 23 rfl rfl)
theorem dX6_bestOf_70 : decode cX6_bestOf 70 = .ok (.iload_n 3, 1) := dk_29 (dk_at dksX6_bestOf_3 0 rfl rfl)
theorem dX6_bestOf_71 : decode cX6_bestOf 71 = .ok (.if_icmp .ne 10, 3) := dk_160 0 10 (dk_at dksX6_bestOf_3 1 rfl rfl)
theorem dX6_bestOf_74 : decode cX6_bestOf 74 = .ok (.iconst 1, 1) := dk_4 (dk_at dksX6_bestOf_3 4 rfl rfl)
theorem dX6_bestOf_75 : decode cX6_bestOf 75 = .ok (.iload 6, 2) := dk_21 6 (dk_at dksX6_bestOf_3 5 rfl rfl)
theorem dX6_bestOf_77 : decode cX6_bestOf 77 = .ok (.ishl, 1) := dk_120 (dk_at dksX6_bestOf_3 7 rfl rfl)
theorem dX6_bestOf_78 : decode cX6_bestOf 78 = .ok (.goto 4, 3) := dk_167 0 4 (dk_at dksX6_bestOf_3 8 rfl rfl)
theorem dX6_bestOf_81 : decode cX6_bestOf 81 = .ok (.iconst 0, 1) := dk_3 (dk_at dksX6_bestOf_3 11 rfl rfl)
theorem dX6_bestOf_82 : decode cX6_bestOf 82 = .ok (.ior, 1) := dk_128 (dk_at dksX6_bestOf_3 12 rfl rfl)
theorem dX6_bestOf_83 : decode cX6_bestOf 83 = .ok (.istore 4, 2) := dk_54 4 (dk_at dksX6_bestOf_3 13 rfl rfl)
theorem dX6_bestOf_85 : decode cX6_bestOf 85 = .ok (.iload 5, 2) := dk_21 5 (dk_at dksX6_bestOf_3 15 rfl rfl)
theorem dX6_bestOf_87 : decode cX6_bestOf 87 = .ok (.aload_n 0, 1) := dk_42 (dk_at dksX6_bestOf_3 17 rfl rfl)
theorem dX6_bestOf_88 : decode cX6_bestOf 88 = .ok (.getfield 67, 3) := dk_180 0 67 (dk_at dksX6_bestOf_3 18 rfl rfl)
theorem dX6_bestOf_91 : decode cX6_bestOf 91 = .ok (.iload 6, 2) := dk_21 6 (dk_at dksX6_bestOf_3 21 rfl rfl)
theorem dX6_bestOf_93 : decode cX6_bestOf 93 = .ok (.iaload, 1) := dk_46 (dk_at dksX6_bestOf_3 23 rfl rfl)
theorem dX6_bestOf_94 : decode cX6_bestOf 94 = .ok (.iload_n 3, 1) := dk_29 (dk_at dksX6_bestOf_4 0 rfl rfl)
theorem dX6_bestOf_95 : decode cX6_bestOf 95 = .ok (.if_icmp .ne 7, 3) := dk_160 0 7 (dk_at dksX6_bestOf_4 1 rfl rfl)
theorem dX6_bestOf_98 : decode cX6_bestOf 98 = .ok (.iload_n 2, 1) := dk_28 (dk_at dksX6_bestOf_4 4 rfl rfl)
theorem dX6_bestOf_99 : decode cX6_bestOf 99 = .ok (.goto 9, 3) := dk_167 0 9 (dk_at dksX6_bestOf_4 5 rfl rfl)
theorem dX6_bestOf_102 : decode cX6_bestOf 102 = .ok (.iconst 1, 1) := dk_4 (dk_at dksX6_bestOf_4 8 rfl rfl)
theorem dX6_bestOf_103 : decode cX6_bestOf 103 = .ok (.iload 6, 2) := dk_21 6 (dk_at dksX6_bestOf_4 9 rfl rfl)
theorem dX6_bestOf_105 : decode cX6_bestOf 105 = .ok (.ishl, 1) := dk_120 (dk_at dksX6_bestOf_4 11 rfl rfl)
theorem dX6_bestOf_106 : decode cX6_bestOf 106 = .ok (.iconst (-1), 1) := dk_2 (dk_at dksX6_bestOf_4 12 rfl rfl)
theorem dX6_bestOf_107 : decode cX6_bestOf 107 = .ok (.ixor, 1) := dk_130 (dk_at dksX6_bestOf_4 13 rfl rfl)
theorem dX6_bestOf_108 : decode cX6_bestOf 108 = .ok (.iand, 1) := dk_126 (dk_at dksX6_bestOf_4 14 rfl rfl)
theorem dX6_bestOf_109 : decode cX6_bestOf 109 = .ok (.istore 5, 2) := dk_54 5 (dk_at dksX6_bestOf_4 15 rfl rfl)
theorem dX6_bestOf_111 : decode cX6_bestOf 111 = .ok (.iinc 6 1, 3) := dk_132 6 1 (dk_at dksX6_bestOf_4 17 rfl rfl)
theorem dX6_bestOf_114 : decode cX6_bestOf 114 = .ok (.goto (-59), 3) := dk_167 255 197 (dk_at dksX6_bestOf_4 20 rfl rfl)
theorem dX6_bestOf_117 : decode cX6_bestOf 117 = .ok (.iconst 0, 1) := dk_3 (dk_at dksX6_bestOf_4 23 rfl rfl)
theorem dX6_bestOf_118 : decode cX6_bestOf 118 = .ok (.istore 6, 2) := dk_54 6 (dk_at dksX6_bestOf_5 0 rfl rfl)
theorem dX6_bestOf_120 : decode cX6_bestOf 120 = .ok (.iload 6, 2) := dk_21 6 (dk_at dksX6_bestOf_5 2 rfl rfl)
theorem dX6_bestOf_122 : decode cX6_bestOf 122 = .ok (.iload_n 2, 1) := dk_28 (dk_at dksX6_bestOf_5 4 rfl rfl)
theorem dX6_bestOf_123 : decode cX6_bestOf 123 = .ok (.if_icmp .gt 168, 3) := dk_163 0 168 (dk_at dksX6_bestOf_5 5 rfl rfl)
theorem dX6_bestOf_126 : decode cX6_bestOf 126 = .ok (.aload_n 0, 1) := dk_42 (dk_at dksX6_bestOf_5 8 rfl rfl)
theorem dX6_bestOf_127 : decode cX6_bestOf 127 = .ok (.getfield 64, 3) := dk_180 0 64 (dk_at dksX6_bestOf_5 9 rfl rfl)
theorem dX6_bestOf_130 : decode cX6_bestOf 130 = .ok (.iload 6, 2) := dk_21 6 (dk_at dksX6_bestOf_5 12 rfl rfl)
theorem dX6_bestOf_132 : decode cX6_bestOf 132 = .ok (.ldc 188, 2) := dk_18 188 (dk_at dksX6_bestOf_5 14 rfl rfl)
theorem dX6_bestOf_134 : decode cX6_bestOf 134 = .ok (.iastore, 1) := dk_79 (dk_at dksX6_bestOf_5 16 rfl rfl)
theorem dX6_bestOf_135 : decode cX6_bestOf 135 = .ok (.iload 6, 2) := dk_21 6 (dk_at dksX6_bestOf_5 17 rfl rfl)
theorem dX6_bestOf_137 : decode cX6_bestOf 137 = .ok (.istore 7, 2) := dk_54 7 (dk_at dksX6_bestOf_5 19 rfl rfl)
theorem dX6_bestOf_139 : decode cX6_bestOf 139 = .ok (.iconst 1, 1) := dk_4 (dk_at dksX6_bestOf_5 21 rfl rfl)
theorem dX6_bestOf_140 : decode cX6_bestOf 140 = .ok (.istore 8, 2) := dk_54 8 (dk_at dksX6_bestOf_5 22 rfl rfl)
theorem dX6_bestOf_142 : decode cX6_bestOf 142 = .ok (.iload 8, 2) := dk_21 8 (dk_at dksX6_bestOf_6 0 rfl rfl)
theorem dX6_bestOf_144 : decode cX6_bestOf 144 = .ok (.ifCond .eq 141, 3) := dk_153 0 141 (dk_at dksX6_bestOf_6 2 rfl rfl)
theorem dX6_bestOf_147 : decode cX6_bestOf 147 = .ok (.iload 7, 2) := dk_21 7 (dk_at dksX6_bestOf_6 5 rfl rfl)
theorem dX6_bestOf_149 : decode cX6_bestOf 149 = .ok (.iload 4, 2) := dk_21 4 (dk_at dksX6_bestOf_6 7 rfl rfl)
theorem dX6_bestOf_151 : decode cX6_bestOf 151 = .ok (.iand, 1) := dk_126 (dk_at dksX6_bestOf_6 9 rfl rfl)
theorem dX6_bestOf_152 : decode cX6_bestOf 152 = .ok (.iload 4, 2) := dk_21 4 (dk_at dksX6_bestOf_6 10 rfl rfl)
theorem dX6_bestOf_154 : decode cX6_bestOf 154 = .ok (.if_icmp .ne 107, 3) := dk_160 0 107 (dk_at dksX6_bestOf_6 12 rfl rfl)
theorem dX6_bestOf_157 : decode cX6_bestOf 157 = .ok (.iload 7, 2) := dk_21 7 (dk_at dksX6_bestOf_6 15 rfl rfl)
theorem dX6_bestOf_159 : decode cX6_bestOf 159 = .ok (.iload 5, 2) := dk_21 5 (dk_at dksX6_bestOf_6 17 rfl rfl)
theorem dX6_bestOf_161 : decode cX6_bestOf 161 = .ok (.iconst (-1), 1) := dk_2 (dk_at dksX6_bestOf_6 19 rfl rfl)
theorem dX6_bestOf_162 : decode cX6_bestOf 162 = .ok (.ixor, 1) := dk_130 (dk_at dksX6_bestOf_6 20 rfl rfl)
theorem dX6_bestOf_163 : decode cX6_bestOf 163 = .ok (.iand, 1) := dk_126 (dk_at dksX6_bestOf_6 21 rfl rfl)
theorem dX6_bestOf_164 : decode cX6_bestOf 164 = .ok (.ifCond .ne 97, 3) := dk_154 0 97 (dk_at dksX6_bestOf_7 0 rfl rfl)
theorem dX6_bestOf_167 : decode cX6_bestOf 167 = .ok (.aload_n 0, 1) := dk_42 (dk_at dksX6_bestOf_7 3 rfl rfl)
theorem dX6_bestOf_168 : decode cX6_bestOf 168 = .ok (.getfield 58, 3) := dk_180 0 58 (dk_at dksX6_bestOf_7 4 rfl rfl)
theorem dX6_bestOf_171 : decode cX6_bestOf 171 = .ok (.sipush 256, 3) := dk_17 1 0 (dk_at dksX6_bestOf_7 7 rfl rfl)
theorem dX6_bestOf_174 : decode cX6_bestOf 174 = .ok (.iload_n 3, 1) := dk_29 (dk_at dksX6_bestOf_7 10 rfl rfl)
theorem dX6_bestOf_175 : decode cX6_bestOf 175 = .ok (.imul, 1) := dk_104 (dk_at dksX6_bestOf_7 11 rfl rfl)
theorem dX6_bestOf_176 : decode cX6_bestOf 176 = .ok (.iload 7, 2) := dk_21 7 (dk_at dksX6_bestOf_7 12 rfl rfl)
theorem dX6_bestOf_178 : decode cX6_bestOf 178 = .ok (.iadd, 1) := dk_96 (dk_at dksX6_bestOf_7 14 rfl rfl)
theorem dX6_bestOf_179 : decode cX6_bestOf 179 = .ok (.iaload, 1) := dk_46 (dk_at dksX6_bestOf_7 15 rfl rfl)
theorem dX6_bestOf_180 : decode cX6_bestOf 180 = .ok (.ldc 188, 2) := dk_18 188 (dk_at dksX6_bestOf_7 16 rfl rfl)
theorem dX6_bestOf_182 : decode cX6_bestOf 182 = .ok (.if_icmp .ge 79, 3) := dk_162 0 79 (dk_at dksX6_bestOf_7 18 rfl rfl)
theorem dX6_bestOf_185 : decode cX6_bestOf 185 = .ok (.aload_n 0, 1) := dk_42 (dk_at dksX6_bestOf_7 21 rfl rfl)
theorem dX6_bestOf_186 : decode cX6_bestOf 186 = .ok (.getfield 61, 3) := dk_180 0 61 (dk_at dksX6_bestOf_8 0 rfl rfl)
theorem dX6_bestOf_189 : decode cX6_bestOf 189 = .ok (.iload 6, 2) := dk_21 6 (dk_at dksX6_bestOf_8 3 rfl rfl)
theorem dX6_bestOf_191 : decode cX6_bestOf 191 = .ok (.iload 7, 2) := dk_21 7 (dk_at dksX6_bestOf_8 5 rfl rfl)
theorem dX6_bestOf_193 : decode cX6_bestOf 193 = .ok (.iconst (-1), 1) := dk_2 (dk_at dksX6_bestOf_8 7 rfl rfl)
theorem dX6_bestOf_194 : decode cX6_bestOf 194 = .ok (.ixor, 1) := dk_130 (dk_at dksX6_bestOf_8 8 rfl rfl)
theorem dX6_bestOf_195 : decode cX6_bestOf 195 = .ok (.iand, 1) := dk_126 (dk_at dksX6_bestOf_8 9 rfl rfl)
theorem dX6_bestOf_196 : decode cX6_bestOf 196 = .ok (.iaload, 1) := dk_46 (dk_at dksX6_bestOf_8 10 rfl rfl)
theorem dX6_bestOf_197 : decode cX6_bestOf 197 = .ok (.ldc 188, 2) := dk_18 188 (dk_at dksX6_bestOf_8 11 rfl rfl)
theorem dX6_bestOf_199 : decode cX6_bestOf 199 = .ok (.if_icmp .ge 62, 3) := dk_162 0 62 (dk_at dksX6_bestOf_8 13 rfl rfl)
theorem dX6_bestOf_202 : decode cX6_bestOf 202 = .ok (.aload_n 0, 1) := dk_42 (dk_at dksX6_bestOf_8 16 rfl rfl)
theorem dX6_bestOf_203 : decode cX6_bestOf 203 = .ok (.getfield 61, 3) := dk_180 0 61 (dk_at dksX6_bestOf_8 17 rfl rfl)
theorem dX6_bestOf_206 : decode cX6_bestOf 206 = .ok (.iload 6, 2) := dk_21 6 (dk_at dksX6_bestOf_8 20 rfl rfl)
theorem dX6_bestOf_208 : decode cX6_bestOf 208 = .ok (.iload 7, 2) := dk_21 7 (dk_at dksX6_bestOf_8 22 rfl rfl)
theorem dX6_bestOf_210 : decode cX6_bestOf 210 = .ok (.iconst (-1), 1) := dk_2 (dk_at dksX6_bestOf_9 0 rfl rfl)
theorem dX6_bestOf_211 : decode cX6_bestOf 211 = .ok (.ixor, 1) := dk_130 (dk_at dksX6_bestOf_9 1 rfl rfl)
theorem dX6_bestOf_212 : decode cX6_bestOf 212 = .ok (.iand, 1) := dk_126 (dk_at dksX6_bestOf_9 2 rfl rfl)
theorem dX6_bestOf_213 : decode cX6_bestOf 213 = .ok (.iaload, 1) := dk_46 (dk_at dksX6_bestOf_9 3 rfl rfl)
theorem dX6_bestOf_214 : decode cX6_bestOf 214 = .ok (.aload_n 0, 1) := dk_42 (dk_at dksX6_bestOf_9 4 rfl rfl)
theorem dX6_bestOf_215 : decode cX6_bestOf 215 = .ok (.getfield 58, 3) := dk_180 0 58 (dk_at dksX6_bestOf_9 5 rfl rfl)
theorem dX6_bestOf_218 : decode cX6_bestOf 218 = .ok (.sipush 256, 3) := dk_17 1 0 (dk_at dksX6_bestOf_9 8 rfl rfl)
theorem dX6_bestOf_221 : decode cX6_bestOf 221 = .ok (.iload_n 3, 1) := dk_29 (dk_at dksX6_bestOf_9 11 rfl rfl)
theorem dX6_bestOf_222 : decode cX6_bestOf 222 = .ok (.imul, 1) := dk_104 (dk_at dksX6_bestOf_9 12 rfl rfl)
theorem dX6_bestOf_223 : decode cX6_bestOf 223 = .ok (.iload 7, 2) := dk_21 7 (dk_at dksX6_bestOf_9 13 rfl rfl)
theorem dX6_bestOf_225 : decode cX6_bestOf 225 = .ok (.iadd, 1) := dk_96 (dk_at dksX6_bestOf_9 15 rfl rfl)
theorem dX6_bestOf_226 : decode cX6_bestOf 226 = .ok (.iaload, 1) := dk_46 (dk_at dksX6_bestOf_9 16 rfl rfl)
theorem dX6_bestOf_227 : decode cX6_bestOf 227 = .ok (.iadd, 1) := dk_96 (dk_at dksX6_bestOf_9 17 rfl rfl)
theorem dX6_bestOf_228 : decode cX6_bestOf 228 = .ok (.istore 9, 2) := dk_54 9 (dk_at dksX6_bestOf_9 18 rfl rfl)
theorem dX6_bestOf_230 : decode cX6_bestOf 230 = .ok (.aload_n 0, 1) := dk_42 (dk_at dksX6_bestOf_9 20 rfl rfl)
theorem dX6_bestOf_231 : decode cX6_bestOf 231 = .ok (.getfield 64, 3) := dk_180 0 64 (dk_at dksX6_bestOf_9 21 rfl rfl)
theorem dX6_bestOf_234 : decode cX6_bestOf 234 = .ok (.iload 6, 2) := dk_21 6 (dk_at dksX6_bestOf_10 0 rfl rfl)
theorem dX6_bestOf_236 : decode cX6_bestOf 236 = .ok (.iload 9, 2) := dk_21 9 (dk_at dksX6_bestOf_10 2 rfl rfl)
theorem dX6_bestOf_238 : decode cX6_bestOf 238 = .ok (.aload_n 0, 1) := dk_42 (dk_at dksX6_bestOf_10 4 rfl rfl)
theorem dX6_bestOf_239 : decode cX6_bestOf 239 = .ok (.getfield 64, 3) := dk_180 0 64 (dk_at dksX6_bestOf_10 5 rfl rfl)
theorem dX6_bestOf_242 : decode cX6_bestOf 242 = .ok (.iload 6, 2) := dk_21 6 (dk_at dksX6_bestOf_10 8 rfl rfl)
theorem dX6_bestOf_244 : decode cX6_bestOf 244 = .ok (.iaload, 1) := dk_46 (dk_at dksX6_bestOf_10 10 rfl rfl)
theorem dX6_bestOf_245 : decode cX6_bestOf 245 = .ok (.if_icmp .ge 8, 3) := dk_162 0 8 (dk_at dksX6_bestOf_10 11 rfl rfl)
theorem dX6_bestOf_248 : decode cX6_bestOf 248 = .ok (.iload 9, 2) := dk_21 9 (dk_at dksX6_bestOf_10 14 rfl rfl)
theorem dX6_bestOf_250 : decode cX6_bestOf 250 = .ok (.goto 10, 3) := dk_167 0 10 (dk_at dksX6_bestOf_10 16 rfl rfl)
theorem dX6_bestOf_253 : decode cX6_bestOf 253 = .ok (.aload_n 0, 1) := dk_42 (dk_at dksX6_bestOf_10 19 rfl rfl)
theorem dX6_bestOf_254 : decode cX6_bestOf 254 = .ok (.getfield 64, 3) := dk_180 0 64 (dk_at dksX6_bestOf_10 20 rfl rfl)
theorem dX6_bestOf_257 : decode cX6_bestOf 257 = .ok (.iload 6, 2) := dk_21 6 (dk_at dksX6_bestOf_11 0 rfl rfl)
theorem dX6_bestOf_259 : decode cX6_bestOf 259 = .ok (.iaload, 1) := dk_46 (dk_at dksX6_bestOf_11 2 rfl rfl)
theorem dX6_bestOf_260 : decode cX6_bestOf 260 = .ok (.iastore, 1) := dk_79 (dk_at dksX6_bestOf_11 3 rfl rfl)
theorem dX6_bestOf_261 : decode cX6_bestOf 261 = .ok (.iload 7, 2) := dk_21 7 (dk_at dksX6_bestOf_11 4 rfl rfl)
theorem dX6_bestOf_263 : decode cX6_bestOf 263 = .ok (.ifCond .eq 7, 3) := dk_153 0 7 (dk_at dksX6_bestOf_11 6 rfl rfl)
theorem dX6_bestOf_266 : decode cX6_bestOf 266 = .ok (.iconst 1, 1) := dk_4 (dk_at dksX6_bestOf_11 9 rfl rfl)
theorem dX6_bestOf_267 : decode cX6_bestOf 267 = .ok (.goto 4, 3) := dk_167 0 4 (dk_at dksX6_bestOf_11 10 rfl rfl)
theorem dX6_bestOf_270 : decode cX6_bestOf 270 = .ok (.iconst 0, 1) := dk_3 (dk_at dksX6_bestOf_11 13 rfl rfl)
theorem dX6_bestOf_271 : decode cX6_bestOf 271 = .ok (.istore 8, 2) := dk_54 8 (dk_at dksX6_bestOf_11 14 rfl rfl)
theorem dX6_bestOf_273 : decode cX6_bestOf 273 = .ok (.iload 7, 2) := dk_21 7 (dk_at dksX6_bestOf_11 16 rfl rfl)
theorem dX6_bestOf_275 : decode cX6_bestOf 275 = .ok (.iconst 1, 1) := dk_4 (dk_at dksX6_bestOf_11 18 rfl rfl)
theorem dX6_bestOf_276 : decode cX6_bestOf 276 = .ok (.isub, 1) := dk_100 (dk_at dksX6_bestOf_11 19 rfl rfl)
theorem dX6_bestOf_277 : decode cX6_bestOf 277 = .ok (.iload 6, 2) := dk_21 6 (dk_at dksX6_bestOf_11 20 rfl rfl)
theorem dX6_bestOf_279 : decode cX6_bestOf 279 = .ok (.iand, 1) := dk_126 (dk_at dksX6_bestOf_11 22 rfl rfl)
theorem dX6_bestOf_280 : decode cX6_bestOf 280 = .ok (.istore 7, 2) := dk_54 7 (dk_at dksX6_bestOf_12 0 rfl rfl)
theorem dX6_bestOf_282 : decode cX6_bestOf 282 = .ok (.goto (-140), 3) := dk_167 255 116 (dk_at dksX6_bestOf_12 2 rfl rfl)
theorem dX6_bestOf_285 : decode cX6_bestOf 285 = .ok (.iinc 6 1, 3) := dk_132 6 1 (dk_at dksX6_bestOf_12 5 rfl rfl)
theorem dX6_bestOf_288 : decode cX6_bestOf 288 = .ok (.goto (-168), 3) := dk_167 255 88 (dk_at dksX6_bestOf_12 8 rfl rfl)
theorem dX6_bestOf_291 : decode cX6_bestOf 291 = .ok (.iconst 0, 1) := dk_3 (dk_at dksX6_bestOf_12 11 rfl rfl)
theorem dX6_bestOf_292 : decode cX6_bestOf 292 = .ok (.istore 6, 2) := dk_54 6 (dk_at dksX6_bestOf_12 12 rfl rfl)
theorem dX6_bestOf_294 : decode cX6_bestOf 294 = .ok (.iload 6, 2) := dk_21 6 (dk_at dksX6_bestOf_12 14 rfl rfl)
theorem dX6_bestOf_296 : decode cX6_bestOf 296 = .ok (.iload_n 2, 1) := dk_28 (dk_at dksX6_bestOf_12 16 rfl rfl)
theorem dX6_bestOf_297 : decode cX6_bestOf 297 = .ok (.if_icmp .gt 23, 3) := dk_163 0 23 (dk_at dksX6_bestOf_12 17 rfl rfl)
theorem dX6_bestOf_300 : decode cX6_bestOf 300 = .ok (.aload_n 0, 1) := dk_42 (dk_at dksX6_bestOf_12 20 rfl rfl)
theorem dX6_bestOf_301 : decode cX6_bestOf 301 = .ok (.getfield 61, 3) := dk_180 0 61 (dk_at dksX6_bestOf_12 21 rfl rfl)
theorem dX6_bestOf_304 : decode cX6_bestOf 304 = .ok (.iload 6, 2) := dk_21 6 (dk_at dksX6_bestOf_13 0 rfl rfl)
theorem dX6_bestOf_306 : decode cX6_bestOf 306 = .ok (.aload_n 0, 1) := dk_42 (dk_at dksX6_bestOf_13 2 rfl rfl)
theorem dX6_bestOf_307 : decode cX6_bestOf 307 = .ok (.getfield 64, 3) := dk_180 0 64 (dk_at dksX6_bestOf_13 3 rfl rfl)
theorem dX6_bestOf_310 : decode cX6_bestOf 310 = .ok (.iload 6, 2) := dk_21 6 (dk_at dksX6_bestOf_13 6 rfl rfl)
theorem dX6_bestOf_312 : decode cX6_bestOf 312 = .ok (.iaload, 1) := dk_46 (dk_at dksX6_bestOf_13 8 rfl rfl)
theorem dX6_bestOf_313 : decode cX6_bestOf 313 = .ok (.iastore, 1) := dk_79 (dk_at dksX6_bestOf_13 9 rfl rfl)
theorem dX6_bestOf_314 : decode cX6_bestOf 314 = .ok (.iinc 6 1, 3) := dk_132 6 1 (dk_at dksX6_bestOf_13 10 rfl rfl)
theorem dX6_bestOf_317 : decode cX6_bestOf 317 = .ok (.goto (-23), 3) := dk_167 255 233 (dk_at dksX6_bestOf_13 13 rfl rfl)
theorem dX6_bestOf_320 : decode cX6_bestOf 320 = .ok (.iinc 3 1, 3) := dk_132 3 1 (dk_at dksX6_bestOf_13 16 rfl rfl)
theorem dX6_bestOf_323 : decode cX6_bestOf 323 = .ok (.goto (-283), 3) := dk_167 254 229 (dk_at dksX6_bestOf_13 19 rfl rfl)
theorem dX6_bestOf_326 : decode cX6_bestOf 326 = .ok (.aload_n 0, 1) := dk_42 (dk_at dksX6_bestOf_13 22 rfl rfl)
theorem dX6_bestOf_327 : decode cX6_bestOf 327 = .ok (.iconst (-1), 1) := dk_2 (dk_at dksX6_bestOf_13 23 rfl rfl)
theorem dX6_bestOf_328 : decode cX6_bestOf 328 = .ok (.putfield 189, 3) := dk_181 0 189 (dk_at dksX6_bestOf_14 0 rfl rfl)
theorem dX6_bestOf_331 : decode cX6_bestOf 331 = .ok (.aload_n 0, 1) := dk_42 (dk_at dksX6_bestOf_14 3 rfl rfl)
theorem dX6_bestOf_332 : decode cX6_bestOf 332 = .ok (.iconst 0, 1) := dk_3 (dk_at dksX6_bestOf_14 4 rfl rfl)
theorem dX6_bestOf_333 : decode cX6_bestOf 333 = .ok (.putfield 192, 3) := dk_181 0 192 (dk_at dksX6_bestOf_14 5 rfl rfl)
theorem dX6_bestOf_336 : decode cX6_bestOf 336 = .ok (.iconst 0, 1) := dk_3 (dk_at dksX6_bestOf_14 8 rfl rfl)
theorem dX6_bestOf_337 : decode cX6_bestOf 337 = .ok (.istore_n 3, 1) := dk_62 (dk_at dksX6_bestOf_14 9 rfl rfl)
theorem dX6_bestOf_338 : decode cX6_bestOf 338 = .ok (.iload_n 3, 1) := dk_29 (dk_at dksX6_bestOf_14 10 rfl rfl)
theorem dX6_bestOf_339 : decode cX6_bestOf 339 = .ok (.iload_n 2, 1) := dk_28 (dk_at dksX6_bestOf_14 11 rfl rfl)
theorem dX6_bestOf_340 : decode cX6_bestOf 340 = .ok (.if_icmp .gt 109, 3) := dk_163 0 109 (dk_at dksX6_bestOf_14 12 rfl rfl)
theorem dX6_bestOf_343 : decode cX6_bestOf 343 = .ok (.aload_n 0, 1) := dk_42 (dk_at dksX6_bestOf_14 15 rfl rfl)
theorem dX6_bestOf_344 : decode cX6_bestOf 344 = .ok (.iload_n 3, 1) := dk_29 (dk_at dksX6_bestOf_14 16 rfl rfl)
theorem dX6_bestOf_345 : decode cX6_bestOf 345 = .ok (.invokevirtual 195, 3) := dk_182 0 195 (dk_at dksX6_bestOf_14 17 rfl rfl)
theorem dX6_bestOf_348 : decode cX6_bestOf 348 = .ok (.istore 4, 2) := dk_54 4 (dk_at dksX6_bestOf_14 20 rfl rfl)
theorem dX6_bestOf_350 : decode cX6_bestOf 350 = .ok (.aload_n 0, 1) := dk_42 (dk_at dksX6_bestOf_14 22 rfl rfl)
theorem dX6_bestOf_351 : decode cX6_bestOf 351 = .ok (.getfield 61, 3) := dk_180 0 61 (dk_at dksX6_bestOf_15 0 rfl rfl)
theorem dX6_bestOf_354 : decode cX6_bestOf 354 = .ok (.iload_n 3, 1) := dk_29 (dk_at dksX6_bestOf_15 3 rfl rfl)
theorem dX6_bestOf_355 : decode cX6_bestOf 355 = .ok (.iaload, 1) := dk_46 (dk_at dksX6_bestOf_15 4 rfl rfl)
theorem dX6_bestOf_356 : decode cX6_bestOf 356 = .ok (.aload_n 0, 1) := dk_42 (dk_at dksX6_bestOf_15 5 rfl rfl)
theorem dX6_bestOf_357 : decode cX6_bestOf 357 = .ok (.getfield 55, 3) := dk_180 0 55 (dk_at dksX6_bestOf_15 6 rfl rfl)
theorem dX6_bestOf_360 : decode cX6_bestOf 360 = .ok (.iconst 2, 1) := dk_5 (dk_at dksX6_bestOf_15 9 rfl rfl)
theorem dX6_bestOf_361 : decode cX6_bestOf 361 = .ok (.iaload, 1) := dk_46 (dk_at dksX6_bestOf_15 10 rfl rfl)
theorem dX6_bestOf_362 : decode cX6_bestOf 362 = .ok (.if_icmp .gt 38, 3) := dk_163 0 38 (dk_at dksX6_bestOf_15 11 rfl rfl)
theorem dX6_bestOf_365 : decode cX6_bestOf 365 = .ok (.iload 4, 2) := dk_21 4 (dk_at dksX6_bestOf_15 14 rfl rfl)
theorem dX6_bestOf_367 : decode cX6_bestOf 367 = .ok (.aload_n 0, 1) := dk_42 (dk_at dksX6_bestOf_15 16 rfl rfl)
theorem dX6_bestOf_368 : decode cX6_bestOf 368 = .ok (.getfield 189, 3) := dk_180 0 189 (dk_at dksX6_bestOf_15 17 rfl rfl)
theorem dX6_bestOf_371 : decode cX6_bestOf 371 = .ok (.if_icmp .gt 25, 3) := dk_163 0 25 (dk_at dksX6_bestOf_15 20 rfl rfl)
theorem dX6_bestOf_374 : decode cX6_bestOf 374 = .ok (.iload 4, 2) := dk_21 4 (dk_at dksX6_bestOf_16 0 rfl rfl)
theorem dX6_bestOf_376 : decode cX6_bestOf 376 = .ok (.aload_n 0, 1) := dk_42 (dk_at dksX6_bestOf_16 2 rfl rfl)
theorem dX6_bestOf_377 : decode cX6_bestOf 377 = .ok (.getfield 189, 3) := dk_180 0 189 (dk_at dksX6_bestOf_16 3 rfl rfl)
theorem dX6_bestOf_380 : decode cX6_bestOf 380 = .ok (.if_icmp .ne 20, 3) := dk_160 0 20 (dk_at dksX6_bestOf_16 6 rfl rfl)
theorem dX6_bestOf_383 : decode cX6_bestOf 383 = .ok (.aload_n 0, 1) := dk_42 (dk_at dksX6_bestOf_16 9 rfl rfl)
theorem dX6_bestOf_384 : decode cX6_bestOf 384 = .ok (.getfield 61, 3) := dk_180 0 61 (dk_at dksX6_bestOf_16 10 rfl rfl)
theorem dX6_bestOf_387 : decode cX6_bestOf 387 = .ok (.iload_n 3, 1) := dk_29 (dk_at dksX6_bestOf_16 13 rfl rfl)
theorem dX6_bestOf_388 : decode cX6_bestOf 388 = .ok (.iaload, 1) := dk_46 (dk_at dksX6_bestOf_16 14 rfl rfl)
theorem dX6_bestOf_389 : decode cX6_bestOf 389 = .ok (.aload_n 0, 1) := dk_42 (dk_at dksX6_bestOf_16 15 rfl rfl)
theorem dX6_bestOf_390 : decode cX6_bestOf 390 = .ok (.getfield 192, 3) := dk_180 0 192 (dk_at dksX6_bestOf_16 16 rfl rfl)
theorem dX6_bestOf_393 : decode cX6_bestOf 393 = .ok (.if_icmp .ge 7, 3) := dk_162 0 7 (dk_at dksX6_bestOf_16 19 rfl rfl)
theorem dX6_bestOf_396 : decode cX6_bestOf 396 = .ok (.iconst 1, 1) := dk_4 (dk_at dksX6_bestOf_16 22 rfl rfl)
theorem dX6_bestOf_397 : decode cX6_bestOf 397 = .ok (.goto 4, 3) := dk_167 0 4 (dk_at dksX6_bestOf_17 0 rfl rfl)
theorem dX6_bestOf_400 : decode cX6_bestOf 400 = .ok (.iconst 0, 1) := dk_3 (dk_at dksX6_bestOf_17 3 rfl rfl)
theorem dX6_bestOf_401 : decode cX6_bestOf 401 = .ok (.istore 5, 2) := dk_54 5 (dk_at dksX6_bestOf_17 4 rfl rfl)
theorem dX6_bestOf_403 : decode cX6_bestOf 403 = .ok (.aload_n 0, 1) := dk_42 (dk_at dksX6_bestOf_17 6 rfl rfl)
theorem dX6_bestOf_404 : decode cX6_bestOf 404 = .ok (.iload 5, 2) := dk_21 5 (dk_at dksX6_bestOf_17 7 rfl rfl)
theorem dX6_bestOf_406 : decode cX6_bestOf 406 = .ok (.ifCond .eq 8, 3) := dk_153 0 8 (dk_at dksX6_bestOf_17 9 rfl rfl)
theorem dX6_bestOf_409 : decode cX6_bestOf 409 = .ok (.iload 4, 2) := dk_21 4 (dk_at dksX6_bestOf_17 12 rfl rfl)
theorem dX6_bestOf_411 : decode cX6_bestOf 411 = .ok (.goto 7, 3) := dk_167 0 7 (dk_at dksX6_bestOf_17 14 rfl rfl)
theorem dX6_bestOf_414 : decode cX6_bestOf 414 = .ok (.aload_n 0, 1) := dk_42 (dk_at dksX6_bestOf_17 17 rfl rfl)
theorem dX6_bestOf_415 : decode cX6_bestOf 415 = .ok (.getfield 189, 3) := dk_180 0 189 (dk_at dksX6_bestOf_17 18 rfl rfl)
theorem dX6_bestOf_418 : decode cX6_bestOf 418 = .ok (.putfield 189, 3) := dk_181 0 189 (dk_at dksX6_bestOf_17 21 rfl rfl)
theorem dX6_bestOf_421 : decode cX6_bestOf 421 = .ok (.aload_n 0, 1) := dk_42 (dk_at dksX6_bestOf_18 0 rfl rfl)
theorem dX6_bestOf_422 : decode cX6_bestOf 422 = .ok (.iload 5, 2) := dk_21 5 (dk_at dksX6_bestOf_18 1 rfl rfl)
theorem dX6_bestOf_424 : decode cX6_bestOf 424 = .ok (.ifCond .eq 12, 3) := dk_153 0 12 (dk_at dksX6_bestOf_18 3 rfl rfl)
theorem dX6_bestOf_427 : decode cX6_bestOf 427 = .ok (.aload_n 0, 1) := dk_42 (dk_at dksX6_bestOf_18 6 rfl rfl)
theorem dX6_bestOf_428 : decode cX6_bestOf 428 = .ok (.getfield 61, 3) := dk_180 0 61 (dk_at dksX6_bestOf_18 7 rfl rfl)
theorem dX6_bestOf_431 : decode cX6_bestOf 431 = .ok (.iload_n 3, 1) := dk_29 (dk_at dksX6_bestOf_18 10 rfl rfl)
theorem dX6_bestOf_432 : decode cX6_bestOf 432 = .ok (.iaload, 1) := dk_46 (dk_at dksX6_bestOf_18 11 rfl rfl)
theorem dX6_bestOf_433 : decode cX6_bestOf 433 = .ok (.goto 7, 3) := dk_167 0 7 (dk_at dksX6_bestOf_18 12 rfl rfl)
theorem dX6_bestOf_436 : decode cX6_bestOf 436 = .ok (.aload_n 0, 1) := dk_42 (dk_at dksX6_bestOf_18 15 rfl rfl)
theorem dX6_bestOf_437 : decode cX6_bestOf 437 = .ok (.getfield 192, 3) := dk_180 0 192 (dk_at dksX6_bestOf_18 16 rfl rfl)
theorem dX6_bestOf_440 : decode cX6_bestOf 440 = .ok (.putfield 192, 3) := dk_181 0 192 (dk_at dksX6_bestOf_18 19 rfl rfl)
theorem dX6_bestOf_443 : decode cX6_bestOf 443 = .ok (.iinc 3 1, 3) := dk_132 3 1 (dk_at dksX6_bestOf_19 0 rfl rfl)
theorem dX6_bestOf_446 : decode cX6_bestOf 446 = .ok (.goto (-108), 3) := dk_167 255 148 (dk_at dksX6_bestOf_19 3 rfl rfl)
theorem dX6_bestOf_449 : decode cX6_bestOf 449 = .ok (.return_, 1) := dk_177 (dk_at dksX6_bestOf_19 6 rfl rfl)
abbrev cX6_worthBy : ByteArray := prog_11_method_42_code
def yX6_worthBy : MethodName := ⟨RX6, "worthBy", "(I)I"⟩
def dkwX6_worthBy_1 : List UInt8 := [180, 0, 25, 29, 46, 167, 0, 4, 3, 96, 61, 132, 3, 1, 167, 255, 224, 28, 172]
abbrev dktX6_worthBy_1 : List UInt8 := dkwX6_worthBy_1 ++ []
def dkwX6_worthBy_0 : List UInt8 := [3, 61, 3, 62, 29, 42, 180, 0, 107, 162, 0, 30, 28, 27, 29, 184, 0, 119, 153, 0, 12, 42]
abbrev dktX6_worthBy_0 : List UInt8 := dkwX6_worthBy_0 ++ dktX6_worthBy_1
theorem dksX6_worthBy_0 : cX6_worthBy.data.toList.drop 0 = dktX6_worthBy_0 := by decide +kernel
theorem dksX6_worthBy_1 : cX6_worthBy.data.toList.drop 22 = dktX6_worthBy_1 := dk_seg dksX6_worthBy_0 22 rfl rfl
theorem dX6_worthBy_0 : decode cX6_worthBy 0 = .ok (.iconst 0, 1) := dk_3 (dk_at dksX6_worthBy_0 0 rfl rfl)
theorem dX6_worthBy_1 : decode cX6_worthBy 1 = .ok (.istore_n 2, 1) := dk_61 (dk_at dksX6_worthBy_0 1 rfl rfl)
theorem dX6_worthBy_2 : decode cX6_worthBy 2 = .ok (.iconst 0, 1) := dk_3 (dk_at dksX6_worthBy_0 2 rfl rfl)
theorem dX6_worthBy_3 : decode cX6_worthBy 3 = .ok (.istore_n 3, 1) := dk_62 (dk_at dksX6_worthBy_0 3 rfl rfl)
theorem dX6_worthBy_4 : decode cX6_worthBy 4 = .ok (.iload_n 3, 1) := dk_29 (dk_at dksX6_worthBy_0 4 rfl rfl)
theorem dX6_worthBy_5 : decode cX6_worthBy 5 = .ok (.aload_n 0, 1) := dk_42 (dk_at dksX6_worthBy_0 5 rfl rfl)
theorem dX6_worthBy_6 : decode cX6_worthBy 6 = .ok (.getfield 107, 3) := dk_180 0 107 (dk_at dksX6_worthBy_0 6 rfl rfl)
theorem dX6_worthBy_9 : decode cX6_worthBy 9 = .ok (.if_icmp .ge 30, 3) := dk_162 0 30 (dk_at dksX6_worthBy_0 9 rfl rfl)
theorem dX6_worthBy_12 : decode cX6_worthBy 12 = .ok (.iload_n 2, 1) := dk_28 (dk_at dksX6_worthBy_0 12 rfl rfl)
theorem dX6_worthBy_13 : decode cX6_worthBy 13 = .ok (.iload_n 1, 1) := dk_27 (dk_at dksX6_worthBy_0 13 rfl rfl)
theorem dX6_worthBy_14 : decode cX6_worthBy 14 = .ok (.iload_n 3, 1) := dk_29 (dk_at dksX6_worthBy_0 14 rfl rfl)
theorem dX6_worthBy_15 : decode cX6_worthBy 15 = .ok (.invokestatic 119, 3) := dk_184 0 119 (dk_at dksX6_worthBy_0 15 rfl rfl)
theorem dX6_worthBy_18 : decode cX6_worthBy 18 = .ok (.ifCond .eq 12, 3) := dk_153 0 12 (dk_at dksX6_worthBy_0 18 rfl rfl)
theorem dX6_worthBy_21 : decode cX6_worthBy 21 = .ok (.aload_n 0, 1) := dk_42 (dk_at dksX6_worthBy_0 21 rfl rfl)
theorem dX6_worthBy_22 : decode cX6_worthBy 22 = .ok (.getfield 25, 3) := dk_180 0 25 (dk_at dksX6_worthBy_1 0 rfl rfl)
theorem dX6_worthBy_25 : decode cX6_worthBy 25 = .ok (.iload_n 3, 1) := dk_29 (dk_at dksX6_worthBy_1 3 rfl rfl)
theorem dX6_worthBy_26 : decode cX6_worthBy 26 = .ok (.iaload, 1) := dk_46 (dk_at dksX6_worthBy_1 4 rfl rfl)
theorem dX6_worthBy_27 : decode cX6_worthBy 27 = .ok (.goto 4, 3) := dk_167 0 4 (dk_at dksX6_worthBy_1 5 rfl rfl)
theorem dX6_worthBy_30 : decode cX6_worthBy 30 = .ok (.iconst 0, 1) := dk_3 (dk_at dksX6_worthBy_1 8 rfl rfl)
theorem dX6_worthBy_31 : decode cX6_worthBy 31 = .ok (.iadd, 1) := dk_96 (dk_at dksX6_worthBy_1 9 rfl rfl)
theorem dX6_worthBy_32 : decode cX6_worthBy 32 = .ok (.istore_n 2, 1) := dk_61 (dk_at dksX6_worthBy_1 10 rfl rfl)
theorem dX6_worthBy_33 : decode cX6_worthBy 33 = .ok (.iinc 3 1, 3) := dk_132 3 1 (dk_at dksX6_worthBy_1 11 rfl rfl)
theorem dX6_worthBy_36 : decode cX6_worthBy 36 = .ok (.goto (-32), 3) := dk_167 255 224 (dk_at dksX6_worthBy_1 14 rfl rfl)
theorem dX6_worthBy_39 : decode cX6_worthBy 39 = .ok (.iload_n 2, 1) := dk_28 (dk_at dksX6_worthBy_1 17 rfl rfl)
theorem dX6_worthBy_40 : decode cX6_worthBy 40 = .ok (.ireturn, 1) := dk_172 (dk_at dksX6_worthBy_1 18 rfl rfl)
abbrev cX6_when : ByteArray := prog_11_method_46_code
def yX6_when : MethodName := ⟨RX6, "when", "(I)I"⟩
def dkwX6_when_0 : List UInt8 := [42, 27, 182, 0, 142, 154, 0, 6, 16, 254, 172, 42, 182, 0, 211, 42, 180, 0, 67, 27, 46, 172]
abbrev dktX6_when_0 : List UInt8 := dkwX6_when_0 ++ []
theorem dksX6_when_0 : cX6_when.data.toList.drop 0 = dktX6_when_0 := by decide +kernel
theorem dX6_when_0 : decode cX6_when 0 = .ok (.aload_n 0, 1) := dk_42 (dk_at dksX6_when_0 0 rfl rfl)
theorem dX6_when_1 : decode cX6_when 1 = .ok (.iload_n 1, 1) := dk_27 (dk_at dksX6_when_0 1 rfl rfl)
theorem dX6_when_2 : decode cX6_when 2 = .ok (.invokevirtual 142, 3) := dk_182 0 142 (dk_at dksX6_when_0 2 rfl rfl)
theorem dX6_when_5 : decode cX6_when 5 = .ok (.ifCond .ne 6, 3) := dk_154 0 6 (dk_at dksX6_when_0 5 rfl rfl)
theorem dX6_when_8 : decode cX6_when 8 = .ok (.bipush (-2), 2) := dk_16 254 (dk_at dksX6_when_0 8 rfl rfl)
theorem dX6_when_10 : decode cX6_when 10 = .ok (.ireturn, 1) := dk_172 (dk_at dksX6_when_0 10 rfl rfl)
theorem dX6_when_11 : decode cX6_when 11 = .ok (.aload_n 0, 1) := dk_42 (dk_at dksX6_when_0 11 rfl rfl)
theorem dX6_when_12 : decode cX6_when 12 = .ok (.invokevirtual 211, 3) := dk_182 0 211 (dk_at dksX6_when_0 12 rfl rfl)
theorem dX6_when_15 : decode cX6_when 15 = .ok (.aload_n 0, 1) := dk_42 (dk_at dksX6_when_0 15 rfl rfl)
theorem dX6_when_16 : decode cX6_when 16 = .ok (.getfield 67, 3) := dk_180 0 67 (dk_at dksX6_when_0 16 rfl rfl)
theorem dX6_when_19 : decode cX6_when 19 = .ok (.iload_n 1, 1) := dk_27 (dk_at dksX6_when_0 19 rfl rfl)
theorem dX6_when_20 : decode cX6_when 20 = .ok (.iaload, 1) := dk_46 (dk_at dksX6_when_0 20 rfl rfl)
theorem dX6_when_21 : decode cX6_when 21 = .ok (.ireturn, 1) := dk_172 (dk_at dksX6_when_0 21 rfl rfl)
abbrev cX6_plan : ByteArray := prog_11_method_49_code
def yX6_plan : MethodName := ⟨RX6, "plan", "(II)I"⟩
def dkwX6_plan_1 : List UInt8 := [51, 153, 0, 12, 42, 27, 28, 182, 0, 217, 167, 0, 8, 42, 4, 182, 0, 161, 172]
abbrev dktX6_plan_1 : List UInt8 := dkwX6_plan_1 ++ []
def dkwX6_plan_0 : List UInt8 := [27, 184, 0, 158, 153, 0, 12, 28, 3, 5, 184, 0, 103, 154, 0, 6, 16, 254, 172, 42, 180, 0, 85, 27]
abbrev dktX6_plan_0 : List UInt8 := dkwX6_plan_0 ++ dktX6_plan_1
theorem dksX6_plan_0 : cX6_plan.data.toList.drop 0 = dktX6_plan_0 := by decide +kernel
theorem dksX6_plan_1 : cX6_plan.data.toList.drop 24 = dktX6_plan_1 := dk_seg dksX6_plan_0 24 rfl rfl
theorem dX6_plan_0 : decode cX6_plan 0 = .ok (.iload_n 1, 1) := dk_27 (dk_at dksX6_plan_0 0 rfl rfl)
theorem dX6_plan_1 : decode cX6_plan 1 = .ok (.invokestatic 158, 3) := dk_184 0 158 (dk_at dksX6_plan_0 1 rfl rfl)
theorem dX6_plan_4 : decode cX6_plan 4 = .ok (.ifCond .eq 12, 3) := dk_153 0 12 (dk_at dksX6_plan_0 4 rfl rfl)
theorem dX6_plan_7 : decode cX6_plan 7 = .ok (.iload_n 2, 1) := dk_28 (dk_at dksX6_plan_0 7 rfl rfl)
theorem dX6_plan_8 : decode cX6_plan 8 = .ok (.iconst 0, 1) := dk_3 (dk_at dksX6_plan_0 8 rfl rfl)
theorem dX6_plan_9 : decode cX6_plan 9 = .ok (.iconst 2, 1) := dk_5 (dk_at dksX6_plan_0 9 rfl rfl)
theorem dX6_plan_10 : decode cX6_plan 10 = .ok (.invokestatic 103, 3) := dk_184 0 103 (dk_at dksX6_plan_0 10 rfl rfl)
theorem dX6_plan_13 : decode cX6_plan 13 = .ok (.ifCond .ne 6, 3) := dk_154 0 6 (dk_at dksX6_plan_0 13 rfl rfl)
theorem dX6_plan_16 : decode cX6_plan 16 = .ok (.bipush (-2), 2) := dk_16 254 (dk_at dksX6_plan_0 16 rfl rfl)
theorem dX6_plan_18 : decode cX6_plan 18 = .ok (.ireturn, 1) := dk_172 (dk_at dksX6_plan_0 18 rfl rfl)
theorem dX6_plan_19 : decode cX6_plan 19 = .ok (.aload_n 0, 1) := dk_42 (dk_at dksX6_plan_0 19 rfl rfl)
theorem dX6_plan_20 : decode cX6_plan 20 = .ok (.getfield 85, 3) := dk_180 0 85 (dk_at dksX6_plan_0 20 rfl rfl)
theorem dX6_plan_23 : decode cX6_plan 23 = .ok (.iload_n 1, 1) := dk_27 (dk_at dksX6_plan_0 23 rfl rfl)
theorem dX6_plan_24 : decode cX6_plan 24 = .ok (.baload, 1) := dk_51 (dk_at dksX6_plan_1 0 rfl rfl)
theorem dX6_plan_25 : decode cX6_plan 25 = .ok (.ifCond .eq 12, 3) := dk_153 0 12 (dk_at dksX6_plan_1 1 rfl rfl)
theorem dX6_plan_28 : decode cX6_plan 28 = .ok (.aload_n 0, 1) := dk_42 (dk_at dksX6_plan_1 4 rfl rfl)
theorem dX6_plan_29 : decode cX6_plan 29 = .ok (.iload_n 1, 1) := dk_27 (dk_at dksX6_plan_1 5 rfl rfl)
theorem dX6_plan_30 : decode cX6_plan 30 = .ok (.iload_n 2, 1) := dk_28 (dk_at dksX6_plan_1 6 rfl rfl)
theorem dX6_plan_31 : decode cX6_plan 31 = .ok (.invokevirtual 217, 3) := dk_182 0 217 (dk_at dksX6_plan_1 7 rfl rfl)
theorem dX6_plan_34 : decode cX6_plan 34 = .ok (.goto 8, 3) := dk_167 0 8 (dk_at dksX6_plan_1 10 rfl rfl)
theorem dX6_plan_37 : decode cX6_plan 37 = .ok (.aload_n 0, 1) := dk_42 (dk_at dksX6_plan_1 13 rfl rfl)
theorem dX6_plan_38 : decode cX6_plan 38 = .ok (.iconst 1, 1) := dk_4 (dk_at dksX6_plan_1 14 rfl rfl)
theorem dX6_plan_39 : decode cX6_plan 39 = .ok (.invokevirtual 161, 3) := dk_182 0 161 (dk_at dksX6_plan_1 15 rfl rfl)
theorem dX6_plan_42 : decode cX6_plan 42 = .ok (.ireturn, 1) := dk_172 (dk_at dksX6_plan_1 18 rfl rfl)
abbrev cX6_planOf : ByteArray := prog_11_method_48_code
def yX6_planOf : MethodName := ⟨RX6, "planOf", "(II)I"⟩
def dkwX6_planOf_5 : List UInt8 := [29, 172]
abbrev dktX6_planOf_5 : List UInt8 := dkwX6_planOf_5 ++ []
def dkwX6_planOf_4 : List UInt8 := [167, 255, 212, 29, 16, 253, 160, 0, 8, 16, 253, 167, 0, 14, 28, 4, 160, 0, 8, 21, 4, 167, 0, 4]
abbrev dktX6_planOf_4 : List UInt8 := dkwX6_planOf_4 ++ dktX6_planOf_5
def dkwX6_planOf_3 : List UInt8 := [46, 2, 160, 0, 7, 3, 167, 0, 10, 42, 180, 0, 25, 21, 5, 46, 96, 54, 4, 132, 5, 1]
abbrev dktX6_planOf_3 : List UInt8 := dkwX6_planOf_3 ++ dktX6_planOf_4
def dkwX6_planOf_2 : List UInt8 := [54, 5, 21, 5, 42, 180, 0, 107, 162, 0, 41, 21, 4, 42, 180, 0, 95, 16, 60, 27, 104, 21, 5, 96]
abbrev dktX6_planOf_2 : List UInt8 := dkwX6_planOf_2 ++ dktX6_planOf_3
def dkwX6_planOf_1 : List UInt8 := [182, 0, 214, 62, 28, 154, 0, 15, 29, 16, 253, 160, 0, 7, 3, 167, 0, 4, 4, 172, 3, 54, 4, 3]
abbrev dktX6_planOf_1 : List UInt8 := dkwX6_planOf_1 ++ dktX6_planOf_2
def dkwX6_planOf_0 : List UInt8 := [42, 182, 0, 139, 42, 180, 0, 92, 27, 46, 42, 180, 0, 107, 162, 0, 6, 16, 253, 172, 42, 27]
abbrev dktX6_planOf_0 : List UInt8 := dkwX6_planOf_0 ++ dktX6_planOf_1
theorem dksX6_planOf_0 : cX6_planOf.data.toList.drop 0 = dktX6_planOf_0 := by decide +kernel
theorem dksX6_planOf_1 : cX6_planOf.data.toList.drop 22 = dktX6_planOf_1 := dk_seg dksX6_planOf_0 22 rfl rfl
theorem dksX6_planOf_2 : cX6_planOf.data.toList.drop 46 = dktX6_planOf_2 := dk_seg dksX6_planOf_1 24 rfl rfl
theorem dksX6_planOf_3 : cX6_planOf.data.toList.drop 70 = dktX6_planOf_3 := dk_seg dksX6_planOf_2 24 rfl rfl
theorem dksX6_planOf_4 : cX6_planOf.data.toList.drop 92 = dktX6_planOf_4 := dk_seg dksX6_planOf_3 22 rfl rfl
theorem dksX6_planOf_5 : cX6_planOf.data.toList.drop 116 = dktX6_planOf_5 := dk_seg dksX6_planOf_4 24 rfl rfl
theorem dX6_planOf_0 : decode cX6_planOf 0 = .ok (.aload_n 0, 1) := dk_42 (dk_at dksX6_planOf_0 0 rfl rfl)
theorem dX6_planOf_1 : decode cX6_planOf 1 = .ok (.invokevirtual 139, 3) := dk_182 0 139 (dk_at dksX6_planOf_0 1 rfl rfl)
theorem dX6_planOf_4 : decode cX6_planOf 4 = .ok (.aload_n 0, 1) := dk_42 (dk_at dksX6_planOf_0 4 rfl rfl)
theorem dX6_planOf_5 : decode cX6_planOf 5 = .ok (.getfield 92, 3) := dk_180 0 92 (dk_at dksX6_planOf_0 5 rfl rfl)
theorem dX6_planOf_8 : decode cX6_planOf 8 = .ok (.iload_n 1, 1) := dk_27 (dk_at dksX6_planOf_0 8 rfl rfl)
theorem dX6_planOf_9 : decode cX6_planOf 9 = .ok (.iaload, 1) := dk_46 (dk_at dksX6_planOf_0 9 rfl rfl)
theorem dX6_planOf_10 : decode cX6_planOf 10 = .ok (.aload_n 0, 1) := dk_42 (dk_at dksX6_planOf_0 10 rfl rfl)
theorem dX6_planOf_11 : decode cX6_planOf 11 = .ok (.getfield 107, 3) := dk_180 0 107 (dk_at dksX6_planOf_0 11 rfl rfl)
theorem dX6_planOf_14 : decode cX6_planOf 14 = .ok (.if_icmp .ge 6, 3) := dk_162 0 6 (dk_at dksX6_planOf_0 14 rfl rfl)
theorem dX6_planOf_17 : decode cX6_planOf 17 = .ok (.bipush (-3), 2) := dk_16 253 (dk_at dksX6_planOf_0 17 rfl rfl)
theorem dX6_planOf_19 : decode cX6_planOf 19 = .ok (.ireturn, 1) := dk_172 (dk_at dksX6_planOf_0 19 rfl rfl)
theorem dX6_planOf_20 : decode cX6_planOf 20 = .ok (.aload_n 0, 1) := dk_42 (dk_at dksX6_planOf_0 20 rfl rfl)
theorem dX6_planOf_21 : decode cX6_planOf 21 = .ok (.iload_n 1, 1) := dk_27 (dk_at dksX6_planOf_0 21 rfl rfl)
theorem dX6_planOf_22 : decode cX6_planOf 22 = .ok (.invokevirtual 214, 3) := dk_182 0 214 (dk_at dksX6_planOf_1 0 rfl rfl)
theorem dX6_planOf_25 : decode cX6_planOf 25 = .ok (.istore_n 3, 1) := dk_62 (dk_at dksX6_planOf_1 3 rfl rfl)
theorem dX6_planOf_26 : decode cX6_planOf 26 = .ok (.iload_n 2, 1) := dk_28 (dk_at dksX6_planOf_1 4 rfl rfl)
theorem dX6_planOf_27 : decode cX6_planOf 27 = .ok (.ifCond .ne 15, 3) := dk_154 0 15 (dk_at dksX6_planOf_1 5 rfl rfl)
theorem dX6_planOf_30 : decode cX6_planOf 30 = .ok (.iload_n 3, 1) := dk_29 (dk_at dksX6_planOf_1 8 rfl rfl)
theorem dX6_planOf_31 : decode cX6_planOf 31 = .ok (.bipush (-3), 2) := dk_16 253 (dk_at dksX6_planOf_1 9 rfl rfl)
theorem dX6_planOf_33 : decode cX6_planOf 33 = .ok (.if_icmp .ne 7, 3) := dk_160 0 7 (dk_at dksX6_planOf_1 11 rfl rfl)
theorem dX6_planOf_36 : decode cX6_planOf 36 = .ok (.iconst 0, 1) := dk_3 (dk_at dksX6_planOf_1 14 rfl rfl)
theorem dX6_planOf_37 : decode cX6_planOf 37 = .ok (.goto 4, 3) := dk_167 0 4 (dk_at dksX6_planOf_1 15 rfl rfl)
theorem dX6_planOf_40 : decode cX6_planOf 40 = .ok (.iconst 1, 1) := dk_4 (dk_at dksX6_planOf_1 18 rfl rfl)
theorem dX6_planOf_41 : decode cX6_planOf 41 = .ok (.ireturn, 1) := dk_172 (dk_at dksX6_planOf_1 19 rfl rfl)
theorem dX6_planOf_42 : decode cX6_planOf 42 = .ok (.iconst 0, 1) := dk_3 (dk_at dksX6_planOf_1 20 rfl rfl)
theorem dX6_planOf_43 : decode cX6_planOf 43 = .ok (.istore 4, 2) := dk_54 4 (dk_at dksX6_planOf_1 21 rfl rfl)
theorem dX6_planOf_45 : decode cX6_planOf 45 = .ok (.iconst 0, 1) := dk_3 (dk_at dksX6_planOf_1 23 rfl rfl)
theorem dX6_planOf_46 : decode cX6_planOf 46 = .ok (.istore 5, 2) := dk_54 5 (dk_at dksX6_planOf_2 0 rfl rfl)
theorem dX6_planOf_48 : decode cX6_planOf 48 = .ok (.iload 5, 2) := dk_21 5 (dk_at dksX6_planOf_2 2 rfl rfl)
theorem dX6_planOf_50 : decode cX6_planOf 50 = .ok (.aload_n 0, 1) := dk_42 (dk_at dksX6_planOf_2 4 rfl rfl)
theorem dX6_planOf_51 : decode cX6_planOf 51 = .ok (.getfield 107, 3) := dk_180 0 107 (dk_at dksX6_planOf_2 5 rfl rfl)
theorem dX6_planOf_54 : decode cX6_planOf 54 = .ok (.if_icmp .ge 41, 3) := dk_162 0 41 (dk_at dksX6_planOf_2 8 rfl rfl)
theorem dX6_planOf_57 : decode cX6_planOf 57 = .ok (.iload 4, 2) := dk_21 4 (dk_at dksX6_planOf_2 11 rfl rfl)
theorem dX6_planOf_59 : decode cX6_planOf 59 = .ok (.aload_n 0, 1) := dk_42 (dk_at dksX6_planOf_2 13 rfl rfl)
theorem dX6_planOf_60 : decode cX6_planOf 60 = .ok (.getfield 95, 3) := dk_180 0 95 (dk_at dksX6_planOf_2 14 rfl rfl)
theorem dX6_planOf_63 : decode cX6_planOf 63 = .ok (.bipush 60, 2) := dk_16 60 (dk_at dksX6_planOf_2 17 rfl rfl)
theorem dX6_planOf_65 : decode cX6_planOf 65 = .ok (.iload_n 1, 1) := dk_27 (dk_at dksX6_planOf_2 19 rfl rfl)
theorem dX6_planOf_66 : decode cX6_planOf 66 = .ok (.imul, 1) := dk_104 (dk_at dksX6_planOf_2 20 rfl rfl)
theorem dX6_planOf_67 : decode cX6_planOf 67 = .ok (.iload 5, 2) := dk_21 5 (dk_at dksX6_planOf_2 21 rfl rfl)
theorem dX6_planOf_69 : decode cX6_planOf 69 = .ok (.iadd, 1) := dk_96 (dk_at dksX6_planOf_2 23 rfl rfl)
theorem dX6_planOf_70 : decode cX6_planOf 70 = .ok (.iaload, 1) := dk_46 (dk_at dksX6_planOf_3 0 rfl rfl)
theorem dX6_planOf_71 : decode cX6_planOf 71 = .ok (.iconst (-1), 1) := dk_2 (dk_at dksX6_planOf_3 1 rfl rfl)
theorem dX6_planOf_72 : decode cX6_planOf 72 = .ok (.if_icmp .ne 7, 3) := dk_160 0 7 (dk_at dksX6_planOf_3 2 rfl rfl)
theorem dX6_planOf_75 : decode cX6_planOf 75 = .ok (.iconst 0, 1) := dk_3 (dk_at dksX6_planOf_3 5 rfl rfl)
theorem dX6_planOf_76 : decode cX6_planOf 76 = .ok (.goto 10, 3) := dk_167 0 10 (dk_at dksX6_planOf_3 6 rfl rfl)
theorem dX6_planOf_79 : decode cX6_planOf 79 = .ok (.aload_n 0, 1) := dk_42 (dk_at dksX6_planOf_3 9 rfl rfl)
theorem dX6_planOf_80 : decode cX6_planOf 80 = .ok (.getfield 25, 3) := dk_180 0 25 (dk_at dksX6_planOf_3 10 rfl rfl)
theorem dX6_planOf_83 : decode cX6_planOf 83 = .ok (.iload 5, 2) := dk_21 5 (dk_at dksX6_planOf_3 13 rfl rfl)
theorem dX6_planOf_85 : decode cX6_planOf 85 = .ok (.iaload, 1) := dk_46 (dk_at dksX6_planOf_3 15 rfl rfl)
theorem dX6_planOf_86 : decode cX6_planOf 86 = .ok (.iadd, 1) := dk_96 (dk_at dksX6_planOf_3 16 rfl rfl)
theorem dX6_planOf_87 : decode cX6_planOf 87 = .ok (.istore 4, 2) := dk_54 4 (dk_at dksX6_planOf_3 17 rfl rfl)
theorem dX6_planOf_89 : decode cX6_planOf 89 = .ok (.iinc 5 1, 3) := dk_132 5 1 (dk_at dksX6_planOf_3 19 rfl rfl)
theorem dX6_planOf_92 : decode cX6_planOf 92 = .ok (.goto (-44), 3) := dk_167 255 212 (dk_at dksX6_planOf_4 0 rfl rfl)
theorem dX6_planOf_95 : decode cX6_planOf 95 = .ok (.iload_n 3, 1) := dk_29 (dk_at dksX6_planOf_4 3 rfl rfl)
theorem dX6_planOf_96 : decode cX6_planOf 96 = .ok (.bipush (-3), 2) := dk_16 253 (dk_at dksX6_planOf_4 4 rfl rfl)
theorem dX6_planOf_98 : decode cX6_planOf 98 = .ok (.if_icmp .ne 8, 3) := dk_160 0 8 (dk_at dksX6_planOf_4 6 rfl rfl)
theorem dX6_planOf_101 : decode cX6_planOf 101 = .ok (.bipush (-3), 2) := dk_16 253 (dk_at dksX6_planOf_4 9 rfl rfl)
theorem dX6_planOf_103 : decode cX6_planOf 103 = .ok (.goto 14, 3) := dk_167 0 14 (dk_at dksX6_planOf_4 11 rfl rfl)
theorem dX6_planOf_106 : decode cX6_planOf 106 = .ok (.iload_n 2, 1) := dk_28 (dk_at dksX6_planOf_4 14 rfl rfl)
theorem dX6_planOf_107 : decode cX6_planOf 107 = .ok (.iconst 1, 1) := dk_4 (dk_at dksX6_planOf_4 15 rfl rfl)
theorem dX6_planOf_108 : decode cX6_planOf 108 = .ok (.if_icmp .ne 8, 3) := dk_160 0 8 (dk_at dksX6_planOf_4 16 rfl rfl)
theorem dX6_planOf_111 : decode cX6_planOf 111 = .ok (.iload 4, 2) := dk_21 4 (dk_at dksX6_planOf_4 19 rfl rfl)
theorem dX6_planOf_113 : decode cX6_planOf 113 = .ok (.goto 4, 3) := dk_167 0 4 (dk_at dksX6_planOf_4 21 rfl rfl)
theorem dX6_planOf_116 : decode cX6_planOf 116 = .ok (.iload_n 3, 1) := dk_29 (dk_at dksX6_planOf_5 0 rfl rfl)
theorem dX6_planOf_117 : decode cX6_planOf 117 = .ok (.ireturn, 1) := dk_172 (dk_at dksX6_planOf_5 1 rfl rfl)
abbrev cX6_planCostOf : ByteArray := prog_11_method_47_code
def yX6_planCostOf : MethodName := ⟨RX6, "planCostOf", "(I)I"⟩
def dkwX6_planCostOf_5 : List UInt8 := [172, 28, 21, 5, 96, 61, 132, 3, 1, 167, 255, 173, 28, 172]
abbrev dktX6_planCostOf_5 : List UInt8 := dkwX6_planCostOf_5 ++ []
def dkwX6_planCostOf_4 : List UInt8 := [132, 5, 1, 167, 255, 215, 42, 21, 4, 29, 182, 0, 198, 54, 5, 21, 5, 18, 188, 161, 0, 6, 16, 253]
abbrev dktX6_planCostOf_4 : List UInt8 := dkwX6_planCostOf_4 ++ dktX6_planCostOf_5
def dkwX6_planCostOf_3 : List UInt8 := [16, 60, 27, 104, 21, 5, 96, 46, 29, 160, 0, 10, 4, 21, 5, 120, 167, 0, 4, 3, 128, 54, 4]
abbrev dktX6_planCostOf_3 : List UInt8 := dkwX6_planCostOf_3 ++ dktX6_planCostOf_4
def dkwX6_planCostOf_2 : List UInt8 := [162, 0, 83, 3, 54, 4, 3, 54, 5, 21, 5, 42, 180, 0, 107, 162, 0, 38, 21, 4, 42, 180, 0, 95]
abbrev dktX6_planCostOf_2 : List UInt8 := dkwX6_planCostOf_2 ++ dktX6_planCostOf_3
def dkwX6_planCostOf_1 : List UInt8 := [16, 7, 184, 0, 103, 154, 0, 6, 16, 253, 172, 132, 3, 1, 167, 255, 222, 3, 62, 29, 16, 8]
abbrev dktX6_planCostOf_1 : List UInt8 := dkwX6_planCostOf_1 ++ dktX6_planCostOf_2
def dkwX6_planCostOf_0 : List UInt8 := [3, 61, 3, 62, 29, 42, 180, 0, 107, 162, 0, 32, 42, 180, 0, 95, 16, 60, 27, 104, 29, 96, 46, 2]
abbrev dktX6_planCostOf_0 : List UInt8 := dkwX6_planCostOf_0 ++ dktX6_planCostOf_1
theorem dksX6_planCostOf_0 : cX6_planCostOf.data.toList.drop 0 = dktX6_planCostOf_0 := by decide +kernel
theorem dksX6_planCostOf_1 : cX6_planCostOf.data.toList.drop 24 = dktX6_planCostOf_1 := dk_seg dksX6_planCostOf_0 24 rfl rfl
theorem dksX6_planCostOf_2 : cX6_planCostOf.data.toList.drop 46 = dktX6_planCostOf_2 := dk_seg dksX6_planCostOf_1 22 rfl rfl
theorem dksX6_planCostOf_3 : cX6_planCostOf.data.toList.drop 70 = dktX6_planCostOf_3 := dk_seg dksX6_planCostOf_2 24 rfl rfl
theorem dksX6_planCostOf_4 : cX6_planCostOf.data.toList.drop 93 = dktX6_planCostOf_4 := dk_seg dksX6_planCostOf_3 23 rfl rfl
theorem dksX6_planCostOf_5 : cX6_planCostOf.data.toList.drop 117 = dktX6_planCostOf_5 := dk_seg dksX6_planCostOf_4 24 rfl rfl
theorem dX6_planCostOf_0 : decode cX6_planCostOf 0 = .ok (.iconst 0, 1) := dk_3 (dk_at dksX6_planCostOf_0 0 rfl rfl)
theorem dX6_planCostOf_1 : decode cX6_planCostOf 1 = .ok (.istore_n 2, 1) := dk_61 (dk_at dksX6_planCostOf_0 1 rfl rfl)
theorem dX6_planCostOf_2 : decode cX6_planCostOf 2 = .ok (.iconst 0, 1) := dk_3 (dk_at dksX6_planCostOf_0 2 rfl rfl)
theorem dX6_planCostOf_3 : decode cX6_planCostOf 3 = .ok (.istore_n 3, 1) := dk_62 (dk_at dksX6_planCostOf_0 3 rfl rfl)
theorem dX6_planCostOf_4 : decode cX6_planCostOf 4 = .ok (.iload_n 3, 1) := dk_29 (dk_at dksX6_planCostOf_0 4 rfl rfl)
theorem dX6_planCostOf_5 : decode cX6_planCostOf 5 = .ok (.aload_n 0, 1) := dk_42 (dk_at dksX6_planCostOf_0 5 rfl rfl)
theorem dX6_planCostOf_6 : decode cX6_planCostOf 6 = .ok (.getfield 107, 3) := dk_180 0 107 (dk_at dksX6_planCostOf_0 6 rfl rfl)
theorem dX6_planCostOf_9 : decode cX6_planCostOf 9 = .ok (.if_icmp .ge 32, 3) := dk_162 0 32 (dk_at dksX6_planCostOf_0 9 rfl rfl)
theorem dX6_planCostOf_12 : decode cX6_planCostOf 12 = .ok (.aload_n 0, 1) := dk_42 (dk_at dksX6_planCostOf_0 12 rfl rfl)
theorem dX6_planCostOf_13 : decode cX6_planCostOf 13 = .ok (.getfield 95, 3) := dk_180 0 95 (dk_at dksX6_planCostOf_0 13 rfl rfl)
theorem dX6_planCostOf_16 : decode cX6_planCostOf 16 = .ok (.bipush 60, 2) := dk_16 60 (dk_at dksX6_planCostOf_0 16 rfl rfl)
theorem dX6_planCostOf_18 : decode cX6_planCostOf 18 = .ok (.iload_n 1, 1) := dk_27 (dk_at dksX6_planCostOf_0 18 rfl rfl)
theorem dX6_planCostOf_19 : decode cX6_planCostOf 19 = .ok (.imul, 1) := dk_104 (dk_at dksX6_planCostOf_0 19 rfl rfl)
theorem dX6_planCostOf_20 : decode cX6_planCostOf 20 = .ok (.iload_n 3, 1) := dk_29 (dk_at dksX6_planCostOf_0 20 rfl rfl)
theorem dX6_planCostOf_21 : decode cX6_planCostOf 21 = .ok (.iadd, 1) := dk_96 (dk_at dksX6_planCostOf_0 21 rfl rfl)
theorem dX6_planCostOf_22 : decode cX6_planCostOf 22 = .ok (.iaload, 1) := dk_46 (dk_at dksX6_planCostOf_0 22 rfl rfl)
theorem dX6_planCostOf_23 : decode cX6_planCostOf 23 = .ok (.iconst (-1), 1) := dk_2 (dk_at dksX6_planCostOf_0 23 rfl rfl)
theorem dX6_planCostOf_24 : decode cX6_planCostOf 24 = .ok (.bipush 7, 2) := dk_16 7 (dk_at dksX6_planCostOf_1 0 rfl rfl)
theorem dX6_planCostOf_26 : decode cX6_planCostOf 26 = .ok (.invokestatic 103, 3) := dk_184 0 103 (dk_at dksX6_planCostOf_1 2 rfl rfl)
theorem dX6_planCostOf_29 : decode cX6_planCostOf 29 = .ok (.ifCond .ne 6, 3) := dk_154 0 6 (dk_at dksX6_planCostOf_1 5 rfl rfl)
theorem dX6_planCostOf_32 : decode cX6_planCostOf 32 = .ok (.bipush (-3), 2) := dk_16 253 (dk_at dksX6_planCostOf_1 8 rfl rfl)
theorem dX6_planCostOf_34 : decode cX6_planCostOf 34 = .ok (.ireturn, 1) := dk_172 (dk_at dksX6_planCostOf_1 10 rfl rfl)
theorem dX6_planCostOf_35 : decode cX6_planCostOf 35 = .ok (.iinc 3 1, 3) := dk_132 3 1 (dk_at dksX6_planCostOf_1 11 rfl rfl)
theorem dX6_planCostOf_38 : decode cX6_planCostOf 38 = .ok (.goto (-34), 3) := dk_167 255 222 (dk_at dksX6_planCostOf_1 14 rfl rfl)
theorem dX6_planCostOf_41 : decode cX6_planCostOf 41 = .ok (.iconst 0, 1) := dk_3 (dk_at dksX6_planCostOf_1 17 rfl rfl)
theorem dX6_planCostOf_42 : decode cX6_planCostOf 42 = .ok (.istore_n 3, 1) := dk_62 (dk_at dksX6_planCostOf_1 18 rfl rfl)
theorem dX6_planCostOf_43 : decode cX6_planCostOf 43 = .ok (.iload_n 3, 1) := dk_29 (dk_at dksX6_planCostOf_1 19 rfl rfl)
theorem dX6_planCostOf_44 : decode cX6_planCostOf 44 = .ok (.bipush 8, 2) := dk_16 8 (dk_at dksX6_planCostOf_1 20 rfl rfl)
theorem dX6_planCostOf_46 : decode cX6_planCostOf 46 = .ok (.if_icmp .ge 83, 3) := dk_162 0 83 (dk_at dksX6_planCostOf_2 0 rfl rfl)
theorem dX6_planCostOf_49 : decode cX6_planCostOf 49 = .ok (.iconst 0, 1) := dk_3 (dk_at dksX6_planCostOf_2 3 rfl rfl)
theorem dX6_planCostOf_50 : decode cX6_planCostOf 50 = .ok (.istore 4, 2) := dk_54 4 (dk_at dksX6_planCostOf_2 4 rfl rfl)
theorem dX6_planCostOf_52 : decode cX6_planCostOf 52 = .ok (.iconst 0, 1) := dk_3 (dk_at dksX6_planCostOf_2 6 rfl rfl)
theorem dX6_planCostOf_53 : decode cX6_planCostOf 53 = .ok (.istore 5, 2) := dk_54 5 (dk_at dksX6_planCostOf_2 7 rfl rfl)
theorem dX6_planCostOf_55 : decode cX6_planCostOf 55 = .ok (.iload 5, 2) := dk_21 5 (dk_at dksX6_planCostOf_2 9 rfl rfl)
theorem dX6_planCostOf_57 : decode cX6_planCostOf 57 = .ok (.aload_n 0, 1) := dk_42 (dk_at dksX6_planCostOf_2 11 rfl rfl)
theorem dX6_planCostOf_58 : decode cX6_planCostOf 58 = .ok (.getfield 107, 3) := dk_180 0 107 (dk_at dksX6_planCostOf_2 12 rfl rfl)
theorem dX6_planCostOf_61 : decode cX6_planCostOf 61 = .ok (.if_icmp .ge 38, 3) := dk_162 0 38 (dk_at dksX6_planCostOf_2 15 rfl rfl)
theorem dX6_planCostOf_64 : decode cX6_planCostOf 64 = .ok (.iload 4, 2) := dk_21 4 (dk_at dksX6_planCostOf_2 18 rfl rfl)
theorem dX6_planCostOf_66 : decode cX6_planCostOf 66 = .ok (.aload_n 0, 1) := dk_42 (dk_at dksX6_planCostOf_2 20 rfl rfl)
theorem dX6_planCostOf_67 : decode cX6_planCostOf 67 = .ok (.getfield 95, 3) := dk_180 0 95 (dk_at dksX6_planCostOf_2 21 rfl rfl)
theorem dX6_planCostOf_70 : decode cX6_planCostOf 70 = .ok (.bipush 60, 2) := dk_16 60 (dk_at dksX6_planCostOf_3 0 rfl rfl)
theorem dX6_planCostOf_72 : decode cX6_planCostOf 72 = .ok (.iload_n 1, 1) := dk_27 (dk_at dksX6_planCostOf_3 2 rfl rfl)
theorem dX6_planCostOf_73 : decode cX6_planCostOf 73 = .ok (.imul, 1) := dk_104 (dk_at dksX6_planCostOf_3 3 rfl rfl)
theorem dX6_planCostOf_74 : decode cX6_planCostOf 74 = .ok (.iload 5, 2) := dk_21 5 (dk_at dksX6_planCostOf_3 4 rfl rfl)
theorem dX6_planCostOf_76 : decode cX6_planCostOf 76 = .ok (.iadd, 1) := dk_96 (dk_at dksX6_planCostOf_3 6 rfl rfl)
theorem dX6_planCostOf_77 : decode cX6_planCostOf 77 = .ok (.iaload, 1) := dk_46 (dk_at dksX6_planCostOf_3 7 rfl rfl)
theorem dX6_planCostOf_78 : decode cX6_planCostOf 78 = .ok (.iload_n 3, 1) := dk_29 (dk_at dksX6_planCostOf_3 8 rfl rfl)
theorem dX6_planCostOf_79 : decode cX6_planCostOf 79 = .ok (.if_icmp .ne 10, 3) := dk_160 0 10 (dk_at dksX6_planCostOf_3 9 rfl rfl)
theorem dX6_planCostOf_82 : decode cX6_planCostOf 82 = .ok (.iconst 1, 1) := dk_4 (dk_at dksX6_planCostOf_3 12 rfl rfl)
theorem dX6_planCostOf_83 : decode cX6_planCostOf 83 = .ok (.iload 5, 2) := dk_21 5 (dk_at dksX6_planCostOf_3 13 rfl rfl)
theorem dX6_planCostOf_85 : decode cX6_planCostOf 85 = .ok (.ishl, 1) := dk_120 (dk_at dksX6_planCostOf_3 15 rfl rfl)
theorem dX6_planCostOf_86 : decode cX6_planCostOf 86 = .ok (.goto 4, 3) := dk_167 0 4 (dk_at dksX6_planCostOf_3 16 rfl rfl)
theorem dX6_planCostOf_89 : decode cX6_planCostOf 89 = .ok (.iconst 0, 1) := dk_3 (dk_at dksX6_planCostOf_3 19 rfl rfl)
theorem dX6_planCostOf_90 : decode cX6_planCostOf 90 = .ok (.ior, 1) := dk_128 (dk_at dksX6_planCostOf_3 20 rfl rfl)
theorem dX6_planCostOf_91 : decode cX6_planCostOf 91 = .ok (.istore 4, 2) := dk_54 4 (dk_at dksX6_planCostOf_3 21 rfl rfl)
theorem dX6_planCostOf_93 : decode cX6_planCostOf 93 = .ok (.iinc 5 1, 3) := dk_132 5 1 (dk_at dksX6_planCostOf_4 0 rfl rfl)
theorem dX6_planCostOf_96 : decode cX6_planCostOf 96 = .ok (.goto (-41), 3) := dk_167 255 215 (dk_at dksX6_planCostOf_4 3 rfl rfl)
theorem dX6_planCostOf_99 : decode cX6_planCostOf 99 = .ok (.aload_n 0, 1) := dk_42 (dk_at dksX6_planCostOf_4 6 rfl rfl)
theorem dX6_planCostOf_100 : decode cX6_planCostOf 100 = .ok (.iload 4, 2) := dk_21 4 (dk_at dksX6_planCostOf_4 7 rfl rfl)
theorem dX6_planCostOf_102 : decode cX6_planCostOf 102 = .ok (.iload_n 3, 1) := dk_29 (dk_at dksX6_planCostOf_4 9 rfl rfl)
theorem dX6_planCostOf_103 : decode cX6_planCostOf 103 = .ok (.invokevirtual 198, 3) := dk_182 0 198 (dk_at dksX6_planCostOf_4 10 rfl rfl)
theorem dX6_planCostOf_106 : decode cX6_planCostOf 106 = .ok (.istore 5, 2) := dk_54 5 (dk_at dksX6_planCostOf_4 13 rfl rfl)
theorem dX6_planCostOf_108 : decode cX6_planCostOf 108 = .ok (.iload 5, 2) := dk_21 5 (dk_at dksX6_planCostOf_4 15 rfl rfl)
theorem dX6_planCostOf_110 : decode cX6_planCostOf 110 = .ok (.ldc 188, 2) := dk_18 188 (dk_at dksX6_planCostOf_4 17 rfl rfl)
theorem dX6_planCostOf_112 : decode cX6_planCostOf 112 = .ok (.if_icmp .lt 6, 3) := dk_161 0 6 (dk_at dksX6_planCostOf_4 19 rfl rfl)
theorem dX6_planCostOf_115 : decode cX6_planCostOf 115 = .ok (.bipush (-3), 2) := dk_16 253 (dk_at dksX6_planCostOf_4 22 rfl rfl)
theorem dX6_planCostOf_117 : decode cX6_planCostOf 117 = .ok (.ireturn, 1) := dk_172 (dk_at dksX6_planCostOf_5 0 rfl rfl)
theorem dX6_planCostOf_118 : decode cX6_planCostOf 118 = .ok (.iload_n 2, 1) := dk_28 (dk_at dksX6_planCostOf_5 1 rfl rfl)
theorem dX6_planCostOf_119 : decode cX6_planCostOf 119 = .ok (.iload 5, 2) := dk_21 5 (dk_at dksX6_planCostOf_5 2 rfl rfl)
theorem dX6_planCostOf_121 : decode cX6_planCostOf 121 = .ok (.iadd, 1) := dk_96 (dk_at dksX6_planCostOf_5 4 rfl rfl)
theorem dX6_planCostOf_122 : decode cX6_planCostOf 122 = .ok (.istore_n 2, 1) := dk_61 (dk_at dksX6_planCostOf_5 5 rfl rfl)
theorem dX6_planCostOf_123 : decode cX6_planCostOf 123 = .ok (.iinc 3 1, 3) := dk_132 3 1 (dk_at dksX6_planCostOf_5 6 rfl rfl)
theorem dX6_planCostOf_126 : decode cX6_planCostOf 126 = .ok (.goto (-83), 3) := dk_167 255 173 (dk_at dksX6_planCostOf_5 9 rfl rfl)
theorem dX6_planCostOf_129 : decode cX6_planCostOf 129 = .ok (.iload_n 2, 1) := dk_28 (dk_at dksX6_planCostOf_5 12 rfl rfl)
theorem dX6_planCostOf_130 : decode cX6_planCostOf 130 = .ok (.ireturn, 1) := dk_172 (dk_at dksX6_planCostOf_5 13 rfl rfl)
abbrev cX6_asked : ByteArray := prog_11_method_51_code
def yX6_asked : MethodName := ⟨RX6, "asked", "(II)I"⟩
def dkwX6_asked_1 : List UInt8 := [182, 0, 220, 172]
abbrev dktX6_asked_1 : List UInt8 := dkwX6_asked_1 ++ []
def dkwX6_asked_0 : List UInt8 := [27, 184, 0, 152, 153, 0, 10, 28, 184, 0, 155, 154, 0, 6, 16, 254, 172, 42, 182, 0, 139, 42, 27, 28]
abbrev dktX6_asked_0 : List UInt8 := dkwX6_asked_0 ++ dktX6_asked_1
theorem dksX6_asked_0 : cX6_asked.data.toList.drop 0 = dktX6_asked_0 := by decide +kernel
theorem dksX6_asked_1 : cX6_asked.data.toList.drop 24 = dktX6_asked_1 := dk_seg dksX6_asked_0 24 rfl rfl
theorem dX6_asked_0 : decode cX6_asked 0 = .ok (.iload_n 1, 1) := dk_27 (dk_at dksX6_asked_0 0 rfl rfl)
theorem dX6_asked_1 : decode cX6_asked 1 = .ok (.invokestatic 152, 3) := dk_184 0 152 (dk_at dksX6_asked_0 1 rfl rfl)
theorem dX6_asked_4 : decode cX6_asked 4 = .ok (.ifCond .eq 10, 3) := dk_153 0 10 (dk_at dksX6_asked_0 4 rfl rfl)
theorem dX6_asked_7 : decode cX6_asked 7 = .ok (.iload_n 2, 1) := dk_28 (dk_at dksX6_asked_0 7 rfl rfl)
theorem dX6_asked_8 : decode cX6_asked 8 = .ok (.invokestatic 155, 3) := dk_184 0 155 (dk_at dksX6_asked_0 8 rfl rfl)
theorem dX6_asked_11 : decode cX6_asked 11 = .ok (.ifCond .ne 6, 3) := dk_154 0 6 (dk_at dksX6_asked_0 11 rfl rfl)
theorem dX6_asked_14 : decode cX6_asked 14 = .ok (.bipush (-2), 2) := dk_16 254 (dk_at dksX6_asked_0 14 rfl rfl)
theorem dX6_asked_16 : decode cX6_asked 16 = .ok (.ireturn, 1) := dk_172 (dk_at dksX6_asked_0 16 rfl rfl)
theorem dX6_asked_17 : decode cX6_asked 17 = .ok (.aload_n 0, 1) := dk_42 (dk_at dksX6_asked_0 17 rfl rfl)
theorem dX6_asked_18 : decode cX6_asked 18 = .ok (.invokevirtual 139, 3) := dk_182 0 139 (dk_at dksX6_asked_0 18 rfl rfl)
theorem dX6_asked_21 : decode cX6_asked 21 = .ok (.aload_n 0, 1) := dk_42 (dk_at dksX6_asked_0 21 rfl rfl)
theorem dX6_asked_22 : decode cX6_asked 22 = .ok (.iload_n 1, 1) := dk_27 (dk_at dksX6_asked_0 22 rfl rfl)
theorem dX6_asked_23 : decode cX6_asked 23 = .ok (.iload_n 2, 1) := dk_28 (dk_at dksX6_asked_0 23 rfl rfl)
theorem dX6_asked_24 : decode cX6_asked 24 = .ok (.invokevirtual 220, 3) := dk_182 0 220 (dk_at dksX6_asked_1 0 rfl rfl)
theorem dX6_asked_27 : decode cX6_asked 27 = .ok (.ireturn, 1) := dk_172 (dk_at dksX6_asked_1 3 rfl rfl)
abbrev cX6_askedOf : ByteArray := prog_11_method_50_code
def yX6_askedOf : MethodName := ⟨RX6, "askedOf", "(II)I"⟩
def dkwX6_askedOf_2 : List UInt8 := [132, 4, 1, 167, 255, 211, 29, 172]
abbrev dktX6_askedOf_2 : List UInt8 := dkwX6_askedOf_2 ++ []
def dkwX6_askedOf_1 : List UInt8 := [21, 5, 16, 253, 159, 0, 16, 21, 5, 27, 184, 0, 119, 153, 0, 7, 4, 167, 0, 4, 3, 96, 62]
abbrev dktX6_askedOf_1 : List UInt8 := dkwX6_askedOf_1 ++ dktX6_askedOf_2
def dkwX6_askedOf_0 : List UInt8 := [3, 62, 3, 54, 4, 21, 4, 42, 180, 0, 107, 162, 0, 42, 42, 21, 4, 28, 182, 0, 173, 54, 5, 29]
abbrev dktX6_askedOf_0 : List UInt8 := dkwX6_askedOf_0 ++ dktX6_askedOf_1
theorem dksX6_askedOf_0 : cX6_askedOf.data.toList.drop 0 = dktX6_askedOf_0 := by decide +kernel
theorem dksX6_askedOf_1 : cX6_askedOf.data.toList.drop 24 = dktX6_askedOf_1 := dk_seg dksX6_askedOf_0 24 rfl rfl
theorem dksX6_askedOf_2 : cX6_askedOf.data.toList.drop 47 = dktX6_askedOf_2 := dk_seg dksX6_askedOf_1 23 rfl rfl
theorem dX6_askedOf_0 : decode cX6_askedOf 0 = .ok (.iconst 0, 1) := dk_3 (dk_at dksX6_askedOf_0 0 rfl rfl)
theorem dX6_askedOf_1 : decode cX6_askedOf 1 = .ok (.istore_n 3, 1) := dk_62 (dk_at dksX6_askedOf_0 1 rfl rfl)
theorem dX6_askedOf_2 : decode cX6_askedOf 2 = .ok (.iconst 0, 1) := dk_3 (dk_at dksX6_askedOf_0 2 rfl rfl)
theorem dX6_askedOf_3 : decode cX6_askedOf 3 = .ok (.istore 4, 2) := dk_54 4 (dk_at dksX6_askedOf_0 3 rfl rfl)
theorem dX6_askedOf_5 : decode cX6_askedOf 5 = .ok (.iload 4, 2) := dk_21 4 (dk_at dksX6_askedOf_0 5 rfl rfl)
theorem dX6_askedOf_7 : decode cX6_askedOf 7 = .ok (.aload_n 0, 1) := dk_42 (dk_at dksX6_askedOf_0 7 rfl rfl)
theorem dX6_askedOf_8 : decode cX6_askedOf 8 = .ok (.getfield 107, 3) := dk_180 0 107 (dk_at dksX6_askedOf_0 8 rfl rfl)
theorem dX6_askedOf_11 : decode cX6_askedOf 11 = .ok (.if_icmp .ge 42, 3) := dk_162 0 42 (dk_at dksX6_askedOf_0 11 rfl rfl)
theorem dX6_askedOf_14 : decode cX6_askedOf 14 = .ok (.aload_n 0, 1) := dk_42 (dk_at dksX6_askedOf_0 14 rfl rfl)
theorem dX6_askedOf_15 : decode cX6_askedOf 15 = .ok (.iload 4, 2) := dk_21 4 (dk_at dksX6_askedOf_0 15 rfl rfl)
theorem dX6_askedOf_17 : decode cX6_askedOf 17 = .ok (.iload_n 2, 1) := dk_28 (dk_at dksX6_askedOf_0 17 rfl rfl)
theorem dX6_askedOf_18 : decode cX6_askedOf 18 = .ok (.invokevirtual 173, 3) := dk_182 0 173 (dk_at dksX6_askedOf_0 18 rfl rfl)
theorem dX6_askedOf_21 : decode cX6_askedOf 21 = .ok (.istore 5, 2) := dk_54 5 (dk_at dksX6_askedOf_0 21 rfl rfl)
theorem dX6_askedOf_23 : decode cX6_askedOf 23 = .ok (.iload_n 3, 1) := dk_29 (dk_at dksX6_askedOf_0 23 rfl rfl)
theorem dX6_askedOf_24 : decode cX6_askedOf 24 = .ok (.iload 5, 2) := dk_21 5 (dk_at dksX6_askedOf_1 0 rfl rfl)
theorem dX6_askedOf_26 : decode cX6_askedOf 26 = .ok (.bipush (-3), 2) := dk_16 253 (dk_at dksX6_askedOf_1 2 rfl rfl)
theorem dX6_askedOf_28 : decode cX6_askedOf 28 = .ok (.if_icmp .eq 16, 3) := dk_159 0 16 (dk_at dksX6_askedOf_1 4 rfl rfl)
theorem dX6_askedOf_31 : decode cX6_askedOf 31 = .ok (.iload 5, 2) := dk_21 5 (dk_at dksX6_askedOf_1 7 rfl rfl)
theorem dX6_askedOf_33 : decode cX6_askedOf 33 = .ok (.iload_n 1, 1) := dk_27 (dk_at dksX6_askedOf_1 9 rfl rfl)
theorem dX6_askedOf_34 : decode cX6_askedOf 34 = .ok (.invokestatic 119, 3) := dk_184 0 119 (dk_at dksX6_askedOf_1 10 rfl rfl)
theorem dX6_askedOf_37 : decode cX6_askedOf 37 = .ok (.ifCond .eq 7, 3) := dk_153 0 7 (dk_at dksX6_askedOf_1 13 rfl rfl)
theorem dX6_askedOf_40 : decode cX6_askedOf 40 = .ok (.iconst 1, 1) := dk_4 (dk_at dksX6_askedOf_1 16 rfl rfl)
theorem dX6_askedOf_41 : decode cX6_askedOf 41 = .ok (.goto 4, 3) := dk_167 0 4 (dk_at dksX6_askedOf_1 17 rfl rfl)
theorem dX6_askedOf_44 : decode cX6_askedOf 44 = .ok (.iconst 0, 1) := dk_3 (dk_at dksX6_askedOf_1 20 rfl rfl)
theorem dX6_askedOf_45 : decode cX6_askedOf 45 = .ok (.iadd, 1) := dk_96 (dk_at dksX6_askedOf_1 21 rfl rfl)
theorem dX6_askedOf_46 : decode cX6_askedOf 46 = .ok (.istore_n 3, 1) := dk_62 (dk_at dksX6_askedOf_1 22 rfl rfl)
theorem dX6_askedOf_47 : decode cX6_askedOf 47 = .ok (.iinc 4 1, 3) := dk_132 4 1 (dk_at dksX6_askedOf_2 0 rfl rfl)
theorem dX6_askedOf_50 : decode cX6_askedOf 50 = .ok (.goto (-45), 3) := dk_167 255 211 (dk_at dksX6_askedOf_2 3 rfl rfl)
theorem dX6_askedOf_53 : decode cX6_askedOf 53 = .ok (.iload_n 3, 1) := dk_29 (dk_at dksX6_askedOf_2 6 rfl rfl)
theorem dX6_askedOf_54 : decode cX6_askedOf 54 = .ok (.ireturn, 1) := dk_172 (dk_at dksX6_askedOf_2 7 rfl rfl)
abbrev cX6_crowd : ByteArray := prog_11_method_53_code
def yX6_crowd : MethodName := ⟨RX6, "crowd", "(I)I"⟩
def dkwX6_crowd_0 : List UInt8 := [27, 3, 5, 184, 0, 103, 153, 0, 11, 42, 27, 182, 0, 223, 167, 0, 5, 16, 254, 172]
abbrev dktX6_crowd_0 : List UInt8 := dkwX6_crowd_0 ++ []
theorem dksX6_crowd_0 : cX6_crowd.data.toList.drop 0 = dktX6_crowd_0 := by decide +kernel
theorem dX6_crowd_0 : decode cX6_crowd 0 = .ok (.iload_n 1, 1) := dk_27 (dk_at dksX6_crowd_0 0 rfl rfl)
theorem dX6_crowd_1 : decode cX6_crowd 1 = .ok (.iconst 0, 1) := dk_3 (dk_at dksX6_crowd_0 1 rfl rfl)
theorem dX6_crowd_2 : decode cX6_crowd 2 = .ok (.iconst 2, 1) := dk_5 (dk_at dksX6_crowd_0 2 rfl rfl)
theorem dX6_crowd_3 : decode cX6_crowd 3 = .ok (.invokestatic 103, 3) := dk_184 0 103 (dk_at dksX6_crowd_0 3 rfl rfl)
theorem dX6_crowd_6 : decode cX6_crowd 6 = .ok (.ifCond .eq 11, 3) := dk_153 0 11 (dk_at dksX6_crowd_0 6 rfl rfl)
theorem dX6_crowd_9 : decode cX6_crowd 9 = .ok (.aload_n 0, 1) := dk_42 (dk_at dksX6_crowd_0 9 rfl rfl)
theorem dX6_crowd_10 : decode cX6_crowd 10 = .ok (.iload_n 1, 1) := dk_27 (dk_at dksX6_crowd_0 10 rfl rfl)
theorem dX6_crowd_11 : decode cX6_crowd 11 = .ok (.invokevirtual 223, 3) := dk_182 0 223 (dk_at dksX6_crowd_0 11 rfl rfl)
theorem dX6_crowd_14 : decode cX6_crowd 14 = .ok (.goto 5, 3) := dk_167 0 5 (dk_at dksX6_crowd_0 14 rfl rfl)
theorem dX6_crowd_17 : decode cX6_crowd 17 = .ok (.bipush (-2), 2) := dk_16 254 (dk_at dksX6_crowd_0 17 rfl rfl)
theorem dX6_crowd_19 : decode cX6_crowd 19 = .ok (.ireturn, 1) := dk_172 (dk_at dksX6_crowd_0 19 rfl rfl)
abbrev cX6_crowdOf : ByteArray := prog_11_method_52_code
def yX6_crowdOf : MethodName := ⟨RX6, "crowdOf", "(I)I"⟩
def dkwX6_crowdOf_4 : List UInt8 := [28, 16, 8, 112, 172]
abbrev dktX6_crowdOf_4 : List UInt8 := dkwX6_crowdOf_4 ++ []
def dkwX6_crowdOf_3 : List UInt8 := [29, 167, 0, 27, 28, 2, 160, 0, 7, 2, 167, 0, 18, 27, 154, 0, 10, 28, 16, 8, 108, 167, 0, 7]
abbrev dktX6_crowdOf_3 : List UInt8 := dkwX6_crowdOf_3 ++ dktX6_crowdOf_4
def dkwX6_crowdOf_2 : List UInt8 := [21, 5, 29, 164, 0, 8, 21, 5, 167, 0, 4, 29, 62, 132, 4, 1, 167, 255, 204, 27, 5, 160, 0, 7]
abbrev dktX6_crowdOf_2 : List UInt8 := dkwX6_crowdOf_2 ++ dktX6_crowdOf_3
def dkwX6_crowdOf_1 : List UInt8 := [21, 4, 16, 8, 112, 182, 0, 220, 54, 5, 21, 5, 29, 164, 0, 8, 21, 4, 167, 0, 4, 28, 61]
abbrev dktX6_crowdOf_1 : List UInt8 := dkwX6_crowdOf_1 ++ dktX6_crowdOf_2
def dkwX6_crowdOf_0 : List UInt8 := [42, 182, 0, 139, 2, 61, 3, 62, 3, 54, 4, 21, 4, 16, 64, 162, 0, 51, 42, 21, 4, 16, 8, 108]
abbrev dktX6_crowdOf_0 : List UInt8 := dkwX6_crowdOf_0 ++ dktX6_crowdOf_1
theorem dksX6_crowdOf_0 : cX6_crowdOf.data.toList.drop 0 = dktX6_crowdOf_0 := by decide +kernel
theorem dksX6_crowdOf_1 : cX6_crowdOf.data.toList.drop 24 = dktX6_crowdOf_1 := dk_seg dksX6_crowdOf_0 24 rfl rfl
theorem dksX6_crowdOf_2 : cX6_crowdOf.data.toList.drop 47 = dktX6_crowdOf_2 := dk_seg dksX6_crowdOf_1 23 rfl rfl
theorem dksX6_crowdOf_3 : cX6_crowdOf.data.toList.drop 71 = dktX6_crowdOf_3 := dk_seg dksX6_crowdOf_2 24 rfl rfl
theorem dksX6_crowdOf_4 : cX6_crowdOf.data.toList.drop 95 = dktX6_crowdOf_4 := dk_seg dksX6_crowdOf_3 24 rfl rfl
theorem dX6_crowdOf_0 : decode cX6_crowdOf 0 = .ok (.aload_n 0, 1) := dk_42 (dk_at dksX6_crowdOf_0 0 rfl rfl)
theorem dX6_crowdOf_1 : decode cX6_crowdOf 1 = .ok (.invokevirtual 139, 3) := dk_182 0 139 (dk_at dksX6_crowdOf_0 1 rfl rfl)
theorem dX6_crowdOf_4 : decode cX6_crowdOf 4 = .ok (.iconst (-1), 1) := dk_2 (dk_at dksX6_crowdOf_0 4 rfl rfl)
theorem dX6_crowdOf_5 : decode cX6_crowdOf 5 = .ok (.istore_n 2, 1) := dk_61 (dk_at dksX6_crowdOf_0 5 rfl rfl)
theorem dX6_crowdOf_6 : decode cX6_crowdOf 6 = .ok (.iconst 0, 1) := dk_3 (dk_at dksX6_crowdOf_0 6 rfl rfl)
theorem dX6_crowdOf_7 : decode cX6_crowdOf 7 = .ok (.istore_n 3, 1) := dk_62 (dk_at dksX6_crowdOf_0 7 rfl rfl)
theorem dX6_crowdOf_8 : decode cX6_crowdOf 8 = .ok (.iconst 0, 1) := dk_3 (dk_at dksX6_crowdOf_0 8 rfl rfl)
theorem dX6_crowdOf_9 : decode cX6_crowdOf 9 = .ok (.istore 4, 2) := dk_54 4 (dk_at dksX6_crowdOf_0 9 rfl rfl)
theorem dX6_crowdOf_11 : decode cX6_crowdOf 11 = .ok (.iload 4, 2) := dk_21 4 (dk_at dksX6_crowdOf_0 11 rfl rfl)
theorem dX6_crowdOf_13 : decode cX6_crowdOf 13 = .ok (.bipush 64, 2) := dk_16 64 (dk_at dksX6_crowdOf_0 13 rfl rfl)
theorem dX6_crowdOf_15 : decode cX6_crowdOf 15 = .ok (.if_icmp .ge 51, 3) := dk_162 0 51 (dk_at dksX6_crowdOf_0 15 rfl rfl)
theorem dX6_crowdOf_18 : decode cX6_crowdOf 18 = .ok (.aload_n 0, 1) := dk_42 (dk_at dksX6_crowdOf_0 18 rfl rfl)
theorem dX6_crowdOf_19 : decode cX6_crowdOf 19 = .ok (.iload 4, 2) := dk_21 4 (dk_at dksX6_crowdOf_0 19 rfl rfl)
theorem dX6_crowdOf_21 : decode cX6_crowdOf 21 = .ok (.bipush 8, 2) := dk_16 8 (dk_at dksX6_crowdOf_0 21 rfl rfl)
theorem dX6_crowdOf_23 : decode cX6_crowdOf 23 = .ok (.idiv, 1) := dk_108 (dk_at dksX6_crowdOf_0 23 rfl rfl)
theorem dX6_crowdOf_24 : decode cX6_crowdOf 24 = .ok (.iload 4, 2) := dk_21 4 (dk_at dksX6_crowdOf_1 0 rfl rfl)
theorem dX6_crowdOf_26 : decode cX6_crowdOf 26 = .ok (.bipush 8, 2) := dk_16 8 (dk_at dksX6_crowdOf_1 2 rfl rfl)
theorem dX6_crowdOf_28 : decode cX6_crowdOf 28 = .ok (.irem, 1) := dk_112 (dk_at dksX6_crowdOf_1 4 rfl rfl)
theorem dX6_crowdOf_29 : decode cX6_crowdOf 29 = .ok (.invokevirtual 220, 3) := dk_182 0 220 (dk_at dksX6_crowdOf_1 5 rfl rfl)
theorem dX6_crowdOf_32 : decode cX6_crowdOf 32 = .ok (.istore 5, 2) := dk_54 5 (dk_at dksX6_crowdOf_1 8 rfl rfl)
theorem dX6_crowdOf_34 : decode cX6_crowdOf 34 = .ok (.iload 5, 2) := dk_21 5 (dk_at dksX6_crowdOf_1 10 rfl rfl)
theorem dX6_crowdOf_36 : decode cX6_crowdOf 36 = .ok (.iload_n 3, 1) := dk_29 (dk_at dksX6_crowdOf_1 12 rfl rfl)
theorem dX6_crowdOf_37 : decode cX6_crowdOf 37 = .ok (.if_icmp .le 8, 3) := dk_164 0 8 (dk_at dksX6_crowdOf_1 13 rfl rfl)
theorem dX6_crowdOf_40 : decode cX6_crowdOf 40 = .ok (.iload 4, 2) := dk_21 4 (dk_at dksX6_crowdOf_1 16 rfl rfl)
theorem dX6_crowdOf_42 : decode cX6_crowdOf 42 = .ok (.goto 4, 3) := dk_167 0 4 (dk_at dksX6_crowdOf_1 18 rfl rfl)
theorem dX6_crowdOf_45 : decode cX6_crowdOf 45 = .ok (.iload_n 2, 1) := dk_28 (dk_at dksX6_crowdOf_1 21 rfl rfl)
theorem dX6_crowdOf_46 : decode cX6_crowdOf 46 = .ok (.istore_n 2, 1) := dk_61 (dk_at dksX6_crowdOf_1 22 rfl rfl)
theorem dX6_crowdOf_47 : decode cX6_crowdOf 47 = .ok (.iload 5, 2) := dk_21 5 (dk_at dksX6_crowdOf_2 0 rfl rfl)
theorem dX6_crowdOf_49 : decode cX6_crowdOf 49 = .ok (.iload_n 3, 1) := dk_29 (dk_at dksX6_crowdOf_2 2 rfl rfl)
theorem dX6_crowdOf_50 : decode cX6_crowdOf 50 = .ok (.if_icmp .le 8, 3) := dk_164 0 8 (dk_at dksX6_crowdOf_2 3 rfl rfl)
theorem dX6_crowdOf_53 : decode cX6_crowdOf 53 = .ok (.iload 5, 2) := dk_21 5 (dk_at dksX6_crowdOf_2 6 rfl rfl)
theorem dX6_crowdOf_55 : decode cX6_crowdOf 55 = .ok (.goto 4, 3) := dk_167 0 4 (dk_at dksX6_crowdOf_2 8 rfl rfl)
theorem dX6_crowdOf_58 : decode cX6_crowdOf 58 = .ok (.iload_n 3, 1) := dk_29 (dk_at dksX6_crowdOf_2 11 rfl rfl)
theorem dX6_crowdOf_59 : decode cX6_crowdOf 59 = .ok (.istore_n 3, 1) := dk_62 (dk_at dksX6_crowdOf_2 12 rfl rfl)
theorem dX6_crowdOf_60 : decode cX6_crowdOf 60 = .ok (.iinc 4 1, 3) := dk_132 4 1 (dk_at dksX6_crowdOf_2 13 rfl rfl)
theorem dX6_crowdOf_63 : decode cX6_crowdOf 63 = .ok (.goto (-52), 3) := dk_167 255 204 (dk_at dksX6_crowdOf_2 16 rfl rfl)
theorem dX6_crowdOf_66 : decode cX6_crowdOf 66 = .ok (.iload_n 1, 1) := dk_27 (dk_at dksX6_crowdOf_2 19 rfl rfl)
theorem dX6_crowdOf_67 : decode cX6_crowdOf 67 = .ok (.iconst 2, 1) := dk_5 (dk_at dksX6_crowdOf_2 20 rfl rfl)
theorem dX6_crowdOf_68 : decode cX6_crowdOf 68 = .ok (.if_icmp .ne 7, 3) := dk_160 0 7 (dk_at dksX6_crowdOf_2 21 rfl rfl)
theorem dX6_crowdOf_71 : decode cX6_crowdOf 71 = .ok (.iload_n 3, 1) := dk_29 (dk_at dksX6_crowdOf_3 0 rfl rfl)
theorem dX6_crowdOf_72 : decode cX6_crowdOf 72 = .ok (.goto 27, 3) := dk_167 0 27 (dk_at dksX6_crowdOf_3 1 rfl rfl)
theorem dX6_crowdOf_75 : decode cX6_crowdOf 75 = .ok (.iload_n 2, 1) := dk_28 (dk_at dksX6_crowdOf_3 4 rfl rfl)
theorem dX6_crowdOf_76 : decode cX6_crowdOf 76 = .ok (.iconst (-1), 1) := dk_2 (dk_at dksX6_crowdOf_3 5 rfl rfl)
theorem dX6_crowdOf_77 : decode cX6_crowdOf 77 = .ok (.if_icmp .ne 7, 3) := dk_160 0 7 (dk_at dksX6_crowdOf_3 6 rfl rfl)
theorem dX6_crowdOf_80 : decode cX6_crowdOf 80 = .ok (.iconst (-1), 1) := dk_2 (dk_at dksX6_crowdOf_3 9 rfl rfl)
theorem dX6_crowdOf_81 : decode cX6_crowdOf 81 = .ok (.goto 18, 3) := dk_167 0 18 (dk_at dksX6_crowdOf_3 10 rfl rfl)
theorem dX6_crowdOf_84 : decode cX6_crowdOf 84 = .ok (.iload_n 1, 1) := dk_27 (dk_at dksX6_crowdOf_3 13 rfl rfl)
theorem dX6_crowdOf_85 : decode cX6_crowdOf 85 = .ok (.ifCond .ne 10, 3) := dk_154 0 10 (dk_at dksX6_crowdOf_3 14 rfl rfl)
theorem dX6_crowdOf_88 : decode cX6_crowdOf 88 = .ok (.iload_n 2, 1) := dk_28 (dk_at dksX6_crowdOf_3 17 rfl rfl)
theorem dX6_crowdOf_89 : decode cX6_crowdOf 89 = .ok (.bipush 8, 2) := dk_16 8 (dk_at dksX6_crowdOf_3 18 rfl rfl)
theorem dX6_crowdOf_91 : decode cX6_crowdOf 91 = .ok (.idiv, 1) := dk_108 (dk_at dksX6_crowdOf_3 20 rfl rfl)
theorem dX6_crowdOf_92 : decode cX6_crowdOf 92 = .ok (.goto 7, 3) := dk_167 0 7 (dk_at dksX6_crowdOf_3 21 rfl rfl)
theorem dX6_crowdOf_95 : decode cX6_crowdOf 95 = .ok (.iload_n 2, 1) := dk_28 (dk_at dksX6_crowdOf_4 0 rfl rfl)
theorem dX6_crowdOf_96 : decode cX6_crowdOf 96 = .ok (.bipush 8, 2) := dk_16 8 (dk_at dksX6_crowdOf_4 1 rfl rfl)
theorem dX6_crowdOf_98 : decode cX6_crowdOf 98 = .ok (.irem, 1) := dk_112 (dk_at dksX6_crowdOf_4 3 rfl rfl)
theorem dX6_crowdOf_99 : decode cX6_crowdOf 99 = .ok (.ireturn, 1) := dk_172 (dk_at dksX6_crowdOf_4 4 rfl rfl)
abbrev cX6_likeness : ByteArray := prog_11_method_55_code
def yX6_likeness : MethodName := ⟨RX6, "likeness", "(II)I"⟩
def dkwX6_likeness_1 : List UInt8 := [16, 254, 172]
abbrev dktX6_likeness_1 : List UInt8 := dkwX6_likeness_1 ++ []
def dkwX6_likeness_0 : List UInt8 := [42, 27, 182, 0, 142, 153, 0, 19, 28, 184, 0, 155, 153, 0, 12, 42, 27, 28, 182, 0, 226, 167, 0, 5]
abbrev dktX6_likeness_0 : List UInt8 := dkwX6_likeness_0 ++ dktX6_likeness_1
theorem dksX6_likeness_0 : cX6_likeness.data.toList.drop 0 = dktX6_likeness_0 := by decide +kernel
theorem dksX6_likeness_1 : cX6_likeness.data.toList.drop 24 = dktX6_likeness_1 := dk_seg dksX6_likeness_0 24 rfl rfl
theorem dX6_likeness_0 : decode cX6_likeness 0 = .ok (.aload_n 0, 1) := dk_42 (dk_at dksX6_likeness_0 0 rfl rfl)
theorem dX6_likeness_1 : decode cX6_likeness 1 = .ok (.iload_n 1, 1) := dk_27 (dk_at dksX6_likeness_0 1 rfl rfl)
theorem dX6_likeness_2 : decode cX6_likeness 2 = .ok (.invokevirtual 142, 3) := dk_182 0 142 (dk_at dksX6_likeness_0 2 rfl rfl)
theorem dX6_likeness_5 : decode cX6_likeness 5 = .ok (.ifCond .eq 19, 3) := dk_153 0 19 (dk_at dksX6_likeness_0 5 rfl rfl)
theorem dX6_likeness_8 : decode cX6_likeness 8 = .ok (.iload_n 2, 1) := dk_28 (dk_at dksX6_likeness_0 8 rfl rfl)
theorem dX6_likeness_9 : decode cX6_likeness 9 = .ok (.invokestatic 155, 3) := dk_184 0 155 (dk_at dksX6_likeness_0 9 rfl rfl)
theorem dX6_likeness_12 : decode cX6_likeness 12 = .ok (.ifCond .eq 12, 3) := dk_153 0 12 (dk_at dksX6_likeness_0 12 rfl rfl)
theorem dX6_likeness_15 : decode cX6_likeness 15 = .ok (.aload_n 0, 1) := dk_42 (dk_at dksX6_likeness_0 15 rfl rfl)
theorem dX6_likeness_16 : decode cX6_likeness 16 = .ok (.iload_n 1, 1) := dk_27 (dk_at dksX6_likeness_0 16 rfl rfl)
theorem dX6_likeness_17 : decode cX6_likeness 17 = .ok (.iload_n 2, 1) := dk_28 (dk_at dksX6_likeness_0 17 rfl rfl)
theorem dX6_likeness_18 : decode cX6_likeness 18 = .ok (.invokevirtual 226, 3) := dk_182 0 226 (dk_at dksX6_likeness_0 18 rfl rfl)
theorem dX6_likeness_21 : decode cX6_likeness 21 = .ok (.goto 5, 3) := dk_167 0 5 (dk_at dksX6_likeness_0 21 rfl rfl)
theorem dX6_likeness_24 : decode cX6_likeness 24 = .ok (.bipush (-2), 2) := dk_16 254 (dk_at dksX6_likeness_1 0 rfl rfl)
theorem dX6_likeness_26 : decode cX6_likeness 26 = .ok (.ireturn, 1) := dk_172 (dk_at dksX6_likeness_1 2 rfl rfl)
abbrev cX6_likenessOf : ByteArray := prog_11_method_54_code
def yX6_likenessOf : MethodName := ⟨RX6, "likenessOf", "(II)I"⟩
def dkwX6_likenessOf_4 : List UInt8 := [108, 96, 172]
abbrev dktX6_likenessOf_4 : List UInt8 := dkwX6_likenessOf_4 ++ []
def dkwX6_likenessOf_3 : List UInt8 := [153, 0, 7, 6, 167, 0, 4, 3, 96, 6, 29, 184, 0, 164, 104, 42, 180, 0, 28, 27, 46, 184, 0, 164]
abbrev dktX6_likenessOf_3 : List UInt8 := dkwX6_likenessOf_3 ++ dktX6_likenessOf_4
def dkwX6_likenessOf_2 : List UInt8 := [42, 180, 0, 37, 42, 180, 0, 16, 27, 46, 46, 4, 160, 0, 7, 7, 167, 0, 4, 3, 21, 4]
abbrev dktX6_likenessOf_2 : List UInt8 := dkwX6_likenessOf_2 ++ dktX6_likenessOf_3
def dkwX6_likenessOf_1 : List UInt8 := [180, 0, 22, 27, 46, 159, 0, 12, 42, 27, 28, 182, 0, 167, 153, 0, 7, 4, 167, 0, 4, 3, 54, 4]
abbrev dktX6_likenessOf_1 : List UInt8 := dkwX6_likenessOf_1 ++ dktX6_likenessOf_2
def dkwX6_likenessOf_0 : List UInt8 := [42, 27, 28, 182, 0, 173, 62, 29, 16, 253, 160, 0, 6, 16, 253, 172, 42, 180, 0, 52, 28, 46, 42]
abbrev dktX6_likenessOf_0 : List UInt8 := dkwX6_likenessOf_0 ++ dktX6_likenessOf_1
theorem dksX6_likenessOf_0 : cX6_likenessOf.data.toList.drop 0 = dktX6_likenessOf_0 := by decide +kernel
theorem dksX6_likenessOf_1 : cX6_likenessOf.data.toList.drop 23 = dktX6_likenessOf_1 := dk_seg dksX6_likenessOf_0 23 rfl rfl
theorem dksX6_likenessOf_2 : cX6_likenessOf.data.toList.drop 47 = dktX6_likenessOf_2 := dk_seg dksX6_likenessOf_1 24 rfl rfl
theorem dksX6_likenessOf_3 : cX6_likenessOf.data.toList.drop 69 = dktX6_likenessOf_3 := dk_seg dksX6_likenessOf_2 22 rfl rfl
theorem dksX6_likenessOf_4 : cX6_likenessOf.data.toList.drop 93 = dktX6_likenessOf_4 := dk_seg dksX6_likenessOf_3 24 rfl rfl
theorem dX6_likenessOf_0 : decode cX6_likenessOf 0 = .ok (.aload_n 0, 1) := dk_42 (dk_at dksX6_likenessOf_0 0 rfl rfl)
theorem dX6_likenessOf_1 : decode cX6_likenessOf 1 = .ok (.iload_n 1, 1) := dk_27 (dk_at dksX6_likenessOf_0 1 rfl rfl)
theorem dX6_likenessOf_2 : decode cX6_likenessOf 2 = .ok (.iload_n 2, 1) := dk_28 (dk_at dksX6_likenessOf_0 2 rfl rfl)
theorem dX6_likenessOf_3 : decode cX6_likenessOf 3 = .ok (.invokevirtual 173, 3) := dk_182 0 173 (dk_at dksX6_likenessOf_0 3 rfl rfl)
theorem dX6_likenessOf_6 : decode cX6_likenessOf 6 = .ok (.istore_n 3, 1) := dk_62 (dk_at dksX6_likenessOf_0 6 rfl rfl)
theorem dX6_likenessOf_7 : decode cX6_likenessOf 7 = .ok (.iload_n 3, 1) := dk_29 (dk_at dksX6_likenessOf_0 7 rfl rfl)
theorem dX6_likenessOf_8 : decode cX6_likenessOf 8 = .ok (.bipush (-3), 2) := dk_16 253 (dk_at dksX6_likenessOf_0 8 rfl rfl)
theorem dX6_likenessOf_10 : decode cX6_likenessOf 10 = .ok (.if_icmp .ne 6, 3) := dk_160 0 6 (dk_at dksX6_likenessOf_0 10 rfl rfl)
theorem dX6_likenessOf_13 : decode cX6_likenessOf 13 = .ok (.bipush (-3), 2) := dk_16 253 (dk_at dksX6_likenessOf_0 13 rfl rfl)
theorem dX6_likenessOf_15 : decode cX6_likenessOf 15 = .ok (.ireturn, 1) := dk_172 (dk_at dksX6_likenessOf_0 15 rfl rfl)
theorem dX6_likenessOf_16 : decode cX6_likenessOf 16 = .ok (.aload_n 0, 1) := dk_42 (dk_at dksX6_likenessOf_0 16 rfl rfl)
theorem dX6_likenessOf_17 : decode cX6_likenessOf 17 = .ok (.getfield 52, 3) := dk_180 0 52 (dk_at dksX6_likenessOf_0 17 rfl rfl)
theorem dX6_likenessOf_20 : decode cX6_likenessOf 20 = .ok (.iload_n 2, 1) := dk_28 (dk_at dksX6_likenessOf_0 20 rfl rfl)
theorem dX6_likenessOf_21 : decode cX6_likenessOf 21 = .ok (.iaload, 1) := dk_46 (dk_at dksX6_likenessOf_0 21 rfl rfl)
theorem dX6_likenessOf_22 : decode cX6_likenessOf 22 = .ok (.aload_n 0, 1) := dk_42 (dk_at dksX6_likenessOf_0 22 rfl rfl)
theorem dX6_likenessOf_23 : decode cX6_likenessOf 23 = .ok (.getfield 22, 3) := dk_180 0 22 (dk_at dksX6_likenessOf_1 0 rfl rfl)
theorem dX6_likenessOf_26 : decode cX6_likenessOf 26 = .ok (.iload_n 1, 1) := dk_27 (dk_at dksX6_likenessOf_1 3 rfl rfl)
theorem dX6_likenessOf_27 : decode cX6_likenessOf 27 = .ok (.iaload, 1) := dk_46 (dk_at dksX6_likenessOf_1 4 rfl rfl)
theorem dX6_likenessOf_28 : decode cX6_likenessOf 28 = .ok (.if_icmp .eq 12, 3) := dk_159 0 12 (dk_at dksX6_likenessOf_1 5 rfl rfl)
theorem dX6_likenessOf_31 : decode cX6_likenessOf 31 = .ok (.aload_n 0, 1) := dk_42 (dk_at dksX6_likenessOf_1 8 rfl rfl)
theorem dX6_likenessOf_32 : decode cX6_likenessOf 32 = .ok (.iload_n 1, 1) := dk_27 (dk_at dksX6_likenessOf_1 9 rfl rfl)
theorem dX6_likenessOf_33 : decode cX6_likenessOf 33 = .ok (.iload_n 2, 1) := dk_28 (dk_at dksX6_likenessOf_1 10 rfl rfl)
theorem dX6_likenessOf_34 : decode cX6_likenessOf 34 = .ok (.invokevirtual 167, 3) := dk_182 0 167 (dk_at dksX6_likenessOf_1 11 rfl rfl)
theorem dX6_likenessOf_37 : decode cX6_likenessOf 37 = .ok (.ifCond .eq 7, 3) := dk_153 0 7 (dk_at dksX6_likenessOf_1 14 rfl rfl)
theorem dX6_likenessOf_40 : decode cX6_likenessOf 40 = .ok (.iconst 1, 1) := dk_4 (dk_at dksX6_likenessOf_1 17 rfl rfl)
theorem dX6_likenessOf_41 : decode cX6_likenessOf 41 = .ok (.goto 4, 3) := dk_167 0 4 (dk_at dksX6_likenessOf_1 18 rfl rfl)
theorem dX6_likenessOf_44 : decode cX6_likenessOf 44 = .ok (.iconst 0, 1) := dk_3 (dk_at dksX6_likenessOf_1 21 rfl rfl)
theorem dX6_likenessOf_45 : decode cX6_likenessOf 45 = .ok (.istore 4, 2) := dk_54 4 (dk_at dksX6_likenessOf_1 22 rfl rfl)
theorem dX6_likenessOf_47 : decode cX6_likenessOf 47 = .ok (.aload_n 0, 1) := dk_42 (dk_at dksX6_likenessOf_2 0 rfl rfl)
theorem dX6_likenessOf_48 : decode cX6_likenessOf 48 = .ok (.getfield 37, 3) := dk_180 0 37 (dk_at dksX6_likenessOf_2 1 rfl rfl)
theorem dX6_likenessOf_51 : decode cX6_likenessOf 51 = .ok (.aload_n 0, 1) := dk_42 (dk_at dksX6_likenessOf_2 4 rfl rfl)
theorem dX6_likenessOf_52 : decode cX6_likenessOf 52 = .ok (.getfield 16, 3) := dk_180 0 16 (dk_at dksX6_likenessOf_2 5 rfl rfl)
theorem dX6_likenessOf_55 : decode cX6_likenessOf 55 = .ok (.iload_n 1, 1) := dk_27 (dk_at dksX6_likenessOf_2 8 rfl rfl)
theorem dX6_likenessOf_56 : decode cX6_likenessOf 56 = .ok (.iaload, 1) := dk_46 (dk_at dksX6_likenessOf_2 9 rfl rfl)
theorem dX6_likenessOf_57 : decode cX6_likenessOf 57 = .ok (.iaload, 1) := dk_46 (dk_at dksX6_likenessOf_2 10 rfl rfl)
theorem dX6_likenessOf_58 : decode cX6_likenessOf 58 = .ok (.iconst 1, 1) := dk_4 (dk_at dksX6_likenessOf_2 11 rfl rfl)
theorem dX6_likenessOf_59 : decode cX6_likenessOf 59 = .ok (.if_icmp .ne 7, 3) := dk_160 0 7 (dk_at dksX6_likenessOf_2 12 rfl rfl)
theorem dX6_likenessOf_62 : decode cX6_likenessOf 62 = .ok (.iconst 4, 1) := dk_7 (dk_at dksX6_likenessOf_2 15 rfl rfl)
theorem dX6_likenessOf_63 : decode cX6_likenessOf 63 = .ok (.goto 4, 3) := dk_167 0 4 (dk_at dksX6_likenessOf_2 16 rfl rfl)
theorem dX6_likenessOf_66 : decode cX6_likenessOf 66 = .ok (.iconst 0, 1) := dk_3 (dk_at dksX6_likenessOf_2 19 rfl rfl)
theorem dX6_likenessOf_67 : decode cX6_likenessOf 67 = .ok (.iload 4, 2) := dk_21 4 (dk_at dksX6_likenessOf_2 20 rfl rfl)
theorem dX6_likenessOf_69 : decode cX6_likenessOf 69 = .ok (.ifCond .eq 7, 3) := dk_153 0 7 (dk_at dksX6_likenessOf_3 0 rfl rfl)
theorem dX6_likenessOf_72 : decode cX6_likenessOf 72 = .ok (.iconst 3, 1) := dk_6 (dk_at dksX6_likenessOf_3 3 rfl rfl)
theorem dX6_likenessOf_73 : decode cX6_likenessOf 73 = .ok (.goto 4, 3) := dk_167 0 4 (dk_at dksX6_likenessOf_3 4 rfl rfl)
theorem dX6_likenessOf_76 : decode cX6_likenessOf 76 = .ok (.iconst 0, 1) := dk_3 (dk_at dksX6_likenessOf_3 7 rfl rfl)
theorem dX6_likenessOf_77 : decode cX6_likenessOf 77 = .ok (.iadd, 1) := dk_96 (dk_at dksX6_likenessOf_3 8 rfl rfl)
theorem dX6_likenessOf_78 : decode cX6_likenessOf 78 = .ok (.iconst 3, 1) := dk_6 (dk_at dksX6_likenessOf_3 9 rfl rfl)
theorem dX6_likenessOf_79 : decode cX6_likenessOf 79 = .ok (.iload_n 3, 1) := dk_29 (dk_at dksX6_likenessOf_3 10 rfl rfl)
theorem dX6_likenessOf_80 : decode cX6_likenessOf 80 = .ok (.invokestatic 164, 3) := dk_184 0 164 (dk_at dksX6_likenessOf_3 11 rfl rfl)
theorem dX6_likenessOf_83 : decode cX6_likenessOf 83 = .ok (.imul, 1) := dk_104 (dk_at dksX6_likenessOf_3 14 rfl rfl)
theorem dX6_likenessOf_84 : decode cX6_likenessOf 84 = .ok (.aload_n 0, 1) := dk_42 (dk_at dksX6_likenessOf_3 15 rfl rfl)
theorem dX6_likenessOf_85 : decode cX6_likenessOf 85 = .ok (.getfield 28, 3) := dk_180 0 28 (dk_at dksX6_likenessOf_3 16 rfl rfl)
theorem dX6_likenessOf_88 : decode cX6_likenessOf 88 = .ok (.iload_n 1, 1) := dk_27 (dk_at dksX6_likenessOf_3 19 rfl rfl)
theorem dX6_likenessOf_89 : decode cX6_likenessOf 89 = .ok (.iaload, 1) := dk_46 (dk_at dksX6_likenessOf_3 20 rfl rfl)
theorem dX6_likenessOf_90 : decode cX6_likenessOf 90 = .ok (.invokestatic 164, 3) := dk_184 0 164 (dk_at dksX6_likenessOf_3 21 rfl rfl)
theorem dX6_likenessOf_93 : decode cX6_likenessOf 93 = .ok (.idiv, 1) := dk_108 (dk_at dksX6_likenessOf_4 0 rfl rfl)
theorem dX6_likenessOf_94 : decode cX6_likenessOf 94 = .ok (.iadd, 1) := dk_96 (dk_at dksX6_likenessOf_4 1 rfl rfl)
theorem dX6_likenessOf_95 : decode cX6_likenessOf 95 = .ok (.ireturn, 1) := dk_172 (dk_at dksX6_likenessOf_4 2 rfl rfl)
abbrev cX6_odds : ByteArray := prog_11_method_57_code
def yX6_odds : MethodName := ⟨RX6, "odds", "(III)J"⟩
def dkwX6_odds_1 : List UInt8 := [42, 27, 28, 29, 182, 0, 239, 167, 0, 8, 16, 254, 184, 0, 229, 173]
abbrev dktX6_odds_1 : List UInt8 := dkwX6_odds_1 ++ []
def dkwX6_odds_0 : List UInt8 := [42, 27, 182, 0, 142, 153, 0, 29, 28, 184, 0, 155, 153, 0, 22, 29, 3, 4, 184, 0, 103, 153, 0, 13]
abbrev dktX6_odds_0 : List UInt8 := dkwX6_odds_0 ++ dktX6_odds_1
theorem dksX6_odds_0 : cX6_odds.data.toList.drop 0 = dktX6_odds_0 := by decide +kernel
theorem dksX6_odds_1 : cX6_odds.data.toList.drop 24 = dktX6_odds_1 := dk_seg dksX6_odds_0 24 rfl rfl
theorem dX6_odds_0 : decode cX6_odds 0 = .ok (.aload_n 0, 1) := dk_42 (dk_at dksX6_odds_0 0 rfl rfl)
theorem dX6_odds_1 : decode cX6_odds 1 = .ok (.iload_n 1, 1) := dk_27 (dk_at dksX6_odds_0 1 rfl rfl)
theorem dX6_odds_2 : decode cX6_odds 2 = .ok (.invokevirtual 142, 3) := dk_182 0 142 (dk_at dksX6_odds_0 2 rfl rfl)
theorem dX6_odds_5 : decode cX6_odds 5 = .ok (.ifCond .eq 29, 3) := dk_153 0 29 (dk_at dksX6_odds_0 5 rfl rfl)
theorem dX6_odds_8 : decode cX6_odds 8 = .ok (.iload_n 2, 1) := dk_28 (dk_at dksX6_odds_0 8 rfl rfl)
theorem dX6_odds_9 : decode cX6_odds 9 = .ok (.invokestatic 155, 3) := dk_184 0 155 (dk_at dksX6_odds_0 9 rfl rfl)
theorem dX6_odds_12 : decode cX6_odds 12 = .ok (.ifCond .eq 22, 3) := dk_153 0 22 (dk_at dksX6_odds_0 12 rfl rfl)
theorem dX6_odds_15 : decode cX6_odds 15 = .ok (.iload_n 3, 1) := dk_29 (dk_at dksX6_odds_0 15 rfl rfl)
theorem dX6_odds_16 : decode cX6_odds 16 = .ok (.iconst 0, 1) := dk_3 (dk_at dksX6_odds_0 16 rfl rfl)
theorem dX6_odds_17 : decode cX6_odds 17 = .ok (.iconst 1, 1) := dk_4 (dk_at dksX6_odds_0 17 rfl rfl)
theorem dX6_odds_18 : decode cX6_odds 18 = .ok (.invokestatic 103, 3) := dk_184 0 103 (dk_at dksX6_odds_0 18 rfl rfl)
theorem dX6_odds_21 : decode cX6_odds 21 = .ok (.ifCond .eq 13, 3) := dk_153 0 13 (dk_at dksX6_odds_0 21 rfl rfl)
theorem dX6_odds_24 : decode cX6_odds 24 = .ok (.aload_n 0, 1) := dk_42 (dk_at dksX6_odds_1 0 rfl rfl)
theorem dX6_odds_25 : decode cX6_odds 25 = .ok (.iload_n 1, 1) := dk_27 (dk_at dksX6_odds_1 1 rfl rfl)
theorem dX6_odds_26 : decode cX6_odds 26 = .ok (.iload_n 2, 1) := dk_28 (dk_at dksX6_odds_1 2 rfl rfl)
theorem dX6_odds_27 : decode cX6_odds 27 = .ok (.iload_n 3, 1) := dk_29 (dk_at dksX6_odds_1 3 rfl rfl)
theorem dX6_odds_28 : decode cX6_odds 28 = .ok (.invokevirtual 239, 3) := dk_182 0 239 (dk_at dksX6_odds_1 4 rfl rfl)
theorem dX6_odds_31 : decode cX6_odds 31 = .ok (.goto 8, 3) := dk_167 0 8 (dk_at dksX6_odds_1 7 rfl rfl)
theorem dX6_odds_34 : decode cX6_odds 34 = .ok (.bipush (-2), 2) := dk_16 254 (dk_at dksX6_odds_1 10 rfl rfl)
theorem dX6_odds_36 : decode cX6_odds 36 = .ok (.invokestatic 229, 3) := dk_184 0 229 (dk_at dksX6_odds_1 12 rfl rfl)
theorem dX6_odds_39 : decode cX6_odds 39 = .ok (.lreturn, 1) := dk_173 (dk_at dksX6_odds_1 15 rfl rfl)
abbrev cX6_oddsOf : ByteArray := prog_11_method_56_code
def yX6_oddsOf : MethodName := ⟨RX6, "oddsOf", "(III)J"⟩
def dkwX6_oddsOf_4 : List UInt8 := [167, 255, 201, 22, 6, 22, 8, 29, 184, 0, 235, 173]
abbrev dktX6_oddsOf_4 : List UInt8 := dkwX6_oddsOf_4 ++ []
def dkwX6_oddsOf_3 : List UInt8 := [180, 0, 49, 21, 10, 46, 100, 133, 105, 55, 6, 22, 8, 20, 0, 233, 105, 55, 8, 132, 10, 1]
abbrev dktX6_oddsOf_3 : List UInt8 := dkwX6_oddsOf_3 ++ dktX6_oddsOf_4
def dkwX6_oddsOf_2 : List UInt8 := [21, 10, 184, 0, 119, 153, 0, 38, 21, 4, 42, 180, 0, 55, 6, 46, 162, 0, 27, 22, 6, 16, 16, 42]
abbrev dktX6_oddsOf_2 : List UInt8 := dkwX6_oddsOf_2 ++ dktX6_oddsOf_3
def dkwX6_oddsOf_1 : List UInt8 := [182, 0, 173, 54, 5, 10, 55, 6, 10, 55, 8, 3, 54, 10, 21, 10, 16, 8, 162, 0, 54, 21, 5]
abbrev dktX6_oddsOf_1 : List UInt8 := dkwX6_oddsOf_1 ++ dktX6_oddsOf_2
def dkwX6_oddsOf_0 : List UInt8 := [42, 27, 28, 182, 0, 226, 54, 4, 21, 4, 16, 253, 160, 0, 9, 16, 253, 184, 0, 229, 173, 42, 27, 28]
abbrev dktX6_oddsOf_0 : List UInt8 := dkwX6_oddsOf_0 ++ dktX6_oddsOf_1
theorem dksX6_oddsOf_0 : cX6_oddsOf.data.toList.drop 0 = dktX6_oddsOf_0 := by decide +kernel
theorem dksX6_oddsOf_1 : cX6_oddsOf.data.toList.drop 24 = dktX6_oddsOf_1 := dk_seg dksX6_oddsOf_0 24 rfl rfl
theorem dksX6_oddsOf_2 : cX6_oddsOf.data.toList.drop 47 = dktX6_oddsOf_2 := dk_seg dksX6_oddsOf_1 23 rfl rfl
theorem dksX6_oddsOf_3 : cX6_oddsOf.data.toList.drop 71 = dktX6_oddsOf_3 := dk_seg dksX6_oddsOf_2 24 rfl rfl
theorem dksX6_oddsOf_4 : cX6_oddsOf.data.toList.drop 93 = dktX6_oddsOf_4 := dk_seg dksX6_oddsOf_3 22 rfl rfl
theorem dX6_oddsOf_0 : decode cX6_oddsOf 0 = .ok (.aload_n 0, 1) := dk_42 (dk_at dksX6_oddsOf_0 0 rfl rfl)
theorem dX6_oddsOf_1 : decode cX6_oddsOf 1 = .ok (.iload_n 1, 1) := dk_27 (dk_at dksX6_oddsOf_0 1 rfl rfl)
theorem dX6_oddsOf_2 : decode cX6_oddsOf 2 = .ok (.iload_n 2, 1) := dk_28 (dk_at dksX6_oddsOf_0 2 rfl rfl)
theorem dX6_oddsOf_3 : decode cX6_oddsOf 3 = .ok (.invokevirtual 226, 3) := dk_182 0 226 (dk_at dksX6_oddsOf_0 3 rfl rfl)
theorem dX6_oddsOf_6 : decode cX6_oddsOf 6 = .ok (.istore 4, 2) := dk_54 4 (dk_at dksX6_oddsOf_0 6 rfl rfl)
theorem dX6_oddsOf_8 : decode cX6_oddsOf 8 = .ok (.iload 4, 2) := dk_21 4 (dk_at dksX6_oddsOf_0 8 rfl rfl)
theorem dX6_oddsOf_10 : decode cX6_oddsOf 10 = .ok (.bipush (-3), 2) := dk_16 253 (dk_at dksX6_oddsOf_0 10 rfl rfl)
theorem dX6_oddsOf_12 : decode cX6_oddsOf 12 = .ok (.if_icmp .ne 9, 3) := dk_160 0 9 (dk_at dksX6_oddsOf_0 12 rfl rfl)
theorem dX6_oddsOf_15 : decode cX6_oddsOf 15 = .ok (.bipush (-3), 2) := dk_16 253 (dk_at dksX6_oddsOf_0 15 rfl rfl)
theorem dX6_oddsOf_17 : decode cX6_oddsOf 17 = .ok (.invokestatic 229, 3) := dk_184 0 229 (dk_at dksX6_oddsOf_0 17 rfl rfl)
theorem dX6_oddsOf_20 : decode cX6_oddsOf 20 = .ok (.lreturn, 1) := dk_173 (dk_at dksX6_oddsOf_0 20 rfl rfl)
theorem dX6_oddsOf_21 : decode cX6_oddsOf 21 = .ok (.aload_n 0, 1) := dk_42 (dk_at dksX6_oddsOf_0 21 rfl rfl)
theorem dX6_oddsOf_22 : decode cX6_oddsOf 22 = .ok (.iload_n 1, 1) := dk_27 (dk_at dksX6_oddsOf_0 22 rfl rfl)
theorem dX6_oddsOf_23 : decode cX6_oddsOf 23 = .ok (.iload_n 2, 1) := dk_28 (dk_at dksX6_oddsOf_0 23 rfl rfl)
theorem dX6_oddsOf_24 : decode cX6_oddsOf 24 = .ok (.invokevirtual 173, 3) := dk_182 0 173 (dk_at dksX6_oddsOf_1 0 rfl rfl)
theorem dX6_oddsOf_27 : decode cX6_oddsOf 27 = .ok (.istore 5, 2) := dk_54 5 (dk_at dksX6_oddsOf_1 3 rfl rfl)
theorem dX6_oddsOf_29 : decode cX6_oddsOf 29 = .ok (.lconst 1, 1) := dk_10 (dk_at dksX6_oddsOf_1 5 rfl rfl)
theorem dX6_oddsOf_30 : decode cX6_oddsOf 30 = .ok (.lstore 6, 2) := dk_55 6 (dk_at dksX6_oddsOf_1 6 rfl rfl)
theorem dX6_oddsOf_32 : decode cX6_oddsOf 32 = .ok (.lconst 1, 1) := dk_10 (dk_at dksX6_oddsOf_1 8 rfl rfl)
theorem dX6_oddsOf_33 : decode cX6_oddsOf 33 = .ok (.lstore 8, 2) := dk_55 8 (dk_at dksX6_oddsOf_1 9 rfl rfl)
theorem dX6_oddsOf_35 : decode cX6_oddsOf 35 = .ok (.iconst 0, 1) := dk_3 (dk_at dksX6_oddsOf_1 11 rfl rfl)
theorem dX6_oddsOf_36 : decode cX6_oddsOf 36 = .ok (.istore 10, 2) := dk_54 10 (dk_at dksX6_oddsOf_1 12 rfl rfl)
theorem dX6_oddsOf_38 : decode cX6_oddsOf 38 = .ok (.iload 10, 2) := dk_21 10 (dk_at dksX6_oddsOf_1 14 rfl rfl)
theorem dX6_oddsOf_40 : decode cX6_oddsOf 40 = .ok (.bipush 8, 2) := dk_16 8 (dk_at dksX6_oddsOf_1 16 rfl rfl)
theorem dX6_oddsOf_42 : decode cX6_oddsOf 42 = .ok (.if_icmp .ge 54, 3) := dk_162 0 54 (dk_at dksX6_oddsOf_1 18 rfl rfl)
theorem dX6_oddsOf_45 : decode cX6_oddsOf 45 = .ok (.iload 5, 2) := dk_21 5 (dk_at dksX6_oddsOf_1 21 rfl rfl)
theorem dX6_oddsOf_47 : decode cX6_oddsOf 47 = .ok (.iload 10, 2) := dk_21 10 (dk_at dksX6_oddsOf_2 0 rfl rfl)
theorem dX6_oddsOf_49 : decode cX6_oddsOf 49 = .ok (.invokestatic 119, 3) := dk_184 0 119 (dk_at dksX6_oddsOf_2 2 rfl rfl)
theorem dX6_oddsOf_52 : decode cX6_oddsOf 52 = .ok (.ifCond .eq 38, 3) := dk_153 0 38 (dk_at dksX6_oddsOf_2 5 rfl rfl)
theorem dX6_oddsOf_55 : decode cX6_oddsOf 55 = .ok (.iload 4, 2) := dk_21 4 (dk_at dksX6_oddsOf_2 8 rfl rfl)
theorem dX6_oddsOf_57 : decode cX6_oddsOf 57 = .ok (.aload_n 0, 1) := dk_42 (dk_at dksX6_oddsOf_2 10 rfl rfl)
theorem dX6_oddsOf_58 : decode cX6_oddsOf 58 = .ok (.getfield 55, 3) := dk_180 0 55 (dk_at dksX6_oddsOf_2 11 rfl rfl)
theorem dX6_oddsOf_61 : decode cX6_oddsOf 61 = .ok (.iconst 3, 1) := dk_6 (dk_at dksX6_oddsOf_2 14 rfl rfl)
theorem dX6_oddsOf_62 : decode cX6_oddsOf 62 = .ok (.iaload, 1) := dk_46 (dk_at dksX6_oddsOf_2 15 rfl rfl)
theorem dX6_oddsOf_63 : decode cX6_oddsOf 63 = .ok (.if_icmp .ge 27, 3) := dk_162 0 27 (dk_at dksX6_oddsOf_2 16 rfl rfl)
theorem dX6_oddsOf_66 : decode cX6_oddsOf 66 = .ok (.lload 6, 2) := dk_22 6 (dk_at dksX6_oddsOf_2 19 rfl rfl)
theorem dX6_oddsOf_68 : decode cX6_oddsOf 68 = .ok (.bipush 16, 2) := dk_16 16 (dk_at dksX6_oddsOf_2 21 rfl rfl)
theorem dX6_oddsOf_70 : decode cX6_oddsOf 70 = .ok (.aload_n 0, 1) := dk_42 (dk_at dksX6_oddsOf_2 23 rfl rfl)
theorem dX6_oddsOf_71 : decode cX6_oddsOf 71 = .ok (.getfield 49, 3) := dk_180 0 49 (dk_at dksX6_oddsOf_3 0 rfl rfl)
theorem dX6_oddsOf_74 : decode cX6_oddsOf 74 = .ok (.iload 10, 2) := dk_21 10 (dk_at dksX6_oddsOf_3 3 rfl rfl)
theorem dX6_oddsOf_76 : decode cX6_oddsOf 76 = .ok (.iaload, 1) := dk_46 (dk_at dksX6_oddsOf_3 5 rfl rfl)
theorem dX6_oddsOf_77 : decode cX6_oddsOf 77 = .ok (.isub, 1) := dk_100 (dk_at dksX6_oddsOf_3 6 rfl rfl)
theorem dX6_oddsOf_78 : decode cX6_oddsOf 78 = .ok (.i2l, 1) := dk_133 (dk_at dksX6_oddsOf_3 7 rfl rfl)
theorem dX6_oddsOf_79 : decode cX6_oddsOf 79 = .ok (.lmul, 1) := dk_105 (dk_at dksX6_oddsOf_3 8 rfl rfl)
theorem dX6_oddsOf_80 : decode cX6_oddsOf 80 = .ok (.lstore 6, 2) := dk_55 6 (dk_at dksX6_oddsOf_3 9 rfl rfl)
theorem dX6_oddsOf_82 : decode cX6_oddsOf 82 = .ok (.lload 8, 2) := dk_22 8 (dk_at dksX6_oddsOf_3 11 rfl rfl)
theorem dX6_oddsOf_84 : decode cX6_oddsOf 84 = .ok (.ldc2_w 233, 3) := dk_20 0 233 (dk_at dksX6_oddsOf_3 13 rfl rfl)
theorem dX6_oddsOf_87 : decode cX6_oddsOf 87 = .ok (.lmul, 1) := dk_105 (dk_at dksX6_oddsOf_3 16 rfl rfl)
theorem dX6_oddsOf_88 : decode cX6_oddsOf 88 = .ok (.lstore 8, 2) := dk_55 8 (dk_at dksX6_oddsOf_3 17 rfl rfl)
theorem dX6_oddsOf_90 : decode cX6_oddsOf 90 = .ok (.iinc 10 1, 3) := dk_132 10 1 (dk_at dksX6_oddsOf_3 19 rfl rfl)
theorem dX6_oddsOf_93 : decode cX6_oddsOf 93 = .ok (.goto (-55), 3) := dk_167 255 201 (dk_at dksX6_oddsOf_4 0 rfl rfl)
theorem dX6_oddsOf_96 : decode cX6_oddsOf 96 = .ok (.lload 6, 2) := dk_22 6 (dk_at dksX6_oddsOf_4 3 rfl rfl)
theorem dX6_oddsOf_98 : decode cX6_oddsOf 98 = .ok (.lload 8, 2) := dk_22 8 (dk_at dksX6_oddsOf_4 5 rfl rfl)
theorem dX6_oddsOf_100 : decode cX6_oddsOf 100 = .ok (.iload_n 3, 1) := dk_29 (dk_at dksX6_oddsOf_4 7 rfl rfl)
theorem dX6_oddsOf_101 : decode cX6_oddsOf 101 = .ok (.invokestatic 235, 3) := dk_184 0 235 (dk_at dksX6_oddsOf_4 8 rfl rfl)
theorem dX6_oddsOf_104 : decode cX6_oddsOf 104 = .ok (.lreturn, 1) := dk_173 (dk_at dksX6_oddsOf_4 11 rfl rfl)
abbrev cX6_no : ByteArray := prog_11_method_6_code
def yX6_no : MethodName := ⟨RX6, "no", "(I)J"⟩
def dkwX6_no_0 : List UInt8 := [20, 0, 101, 26, 133, 101, 173]
abbrev dktX6_no_0 : List UInt8 := dkwX6_no_0 ++ []
theorem dksX6_no_0 : cX6_no.data.toList.drop 0 = dktX6_no_0 := by decide +kernel
theorem dX6_no_0 : decode cX6_no 0 = .ok (.ldc2_w 101, 3) := dk_20 0 101 (dk_at dksX6_no_0 0 rfl rfl)
theorem dX6_no_3 : decode cX6_no 3 = .ok (.iload_n 0, 1) := dk_26 (dk_at dksX6_no_0 3 rfl rfl)
theorem dX6_no_4 : decode cX6_no 4 = .ok (.i2l, 1) := dk_133 (dk_at dksX6_no_0 4 rfl rfl)
theorem dX6_no_5 : decode cX6_no 5 = .ok (.lsub, 1) := dk_101 (dk_at dksX6_no_0 5 rfl rfl)
theorem dX6_no_6 : decode cX6_no 6 = .ok (.lreturn, 1) := dk_173 (dk_at dksX6_no_0 6 rfl rfl)
abbrev cX6_lowest : ByteArray := prog_11_method_7_code
def yX6_lowest : MethodName := ⟨RX6, "lowest", "(JJI)J"⟩
def dkwX6_lowest_1 : List UInt8 := [22, 9, 55, 7, 167, 255, 234, 21, 4, 154, 0, 10, 30, 22, 5, 109, 167, 0, 7, 32, 22, 5, 109, 173]
abbrev dktX6_lowest_1 : List UInt8 := dkwX6_lowest_1 ++ []
def dkwX6_lowest_0 : List UInt8 := [30, 55, 5, 32, 55, 7, 22, 7, 9, 148, 153, 0, 21, 22, 5, 22, 7, 113, 55, 9, 22, 7, 55, 5]
abbrev dktX6_lowest_0 : List UInt8 := dkwX6_lowest_0 ++ dktX6_lowest_1
theorem dksX6_lowest_0 : cX6_lowest.data.toList.drop 0 = dktX6_lowest_0 := by decide +kernel
theorem dksX6_lowest_1 : cX6_lowest.data.toList.drop 24 = dktX6_lowest_1 := dk_seg dksX6_lowest_0 24 rfl rfl
theorem dX6_lowest_0 : decode cX6_lowest 0 = .ok (.lload_n 0, 1) := dk_30 (dk_at dksX6_lowest_0 0 rfl rfl)
theorem dX6_lowest_1 : decode cX6_lowest 1 = .ok (.lstore 5, 2) := dk_55 5 (dk_at dksX6_lowest_0 1 rfl rfl)
theorem dX6_lowest_3 : decode cX6_lowest 3 = .ok (.lload_n 2, 1) := dk_32 (dk_at dksX6_lowest_0 3 rfl rfl)
theorem dX6_lowest_4 : decode cX6_lowest 4 = .ok (.lstore 7, 2) := dk_55 7 (dk_at dksX6_lowest_0 4 rfl rfl)
theorem dX6_lowest_6 : decode cX6_lowest 6 = .ok (.lload 7, 2) := dk_22 7 (dk_at dksX6_lowest_0 6 rfl rfl)
theorem dX6_lowest_8 : decode cX6_lowest 8 = .ok (.lconst 0, 1) := dk_9 (dk_at dksX6_lowest_0 8 rfl rfl)
theorem dX6_lowest_9 : decode cX6_lowest 9 = .ok (.lcmp, 1) := dk_148 (dk_at dksX6_lowest_0 9 rfl rfl)
theorem dX6_lowest_10 : decode cX6_lowest 10 = .ok (.ifCond .eq 21, 3) := dk_153 0 21 (dk_at dksX6_lowest_0 10 rfl rfl)
theorem dX6_lowest_13 : decode cX6_lowest 13 = .ok (.lload 5, 2) := dk_22 5 (dk_at dksX6_lowest_0 13 rfl rfl)
theorem dX6_lowest_15 : decode cX6_lowest 15 = .ok (.lload 7, 2) := dk_22 7 (dk_at dksX6_lowest_0 15 rfl rfl)
theorem dX6_lowest_17 : decode cX6_lowest 17 = .ok (.lrem, 1) := dk_113 (dk_at dksX6_lowest_0 17 rfl rfl)
theorem dX6_lowest_18 : decode cX6_lowest 18 = .ok (.lstore 9, 2) := dk_55 9 (dk_at dksX6_lowest_0 18 rfl rfl)
theorem dX6_lowest_20 : decode cX6_lowest 20 = .ok (.lload 7, 2) := dk_22 7 (dk_at dksX6_lowest_0 20 rfl rfl)
theorem dX6_lowest_22 : decode cX6_lowest 22 = .ok (.lstore 5, 2) := dk_55 5 (dk_at dksX6_lowest_0 22 rfl rfl)
theorem dX6_lowest_24 : decode cX6_lowest 24 = .ok (.lload 9, 2) := dk_22 9 (dk_at dksX6_lowest_1 0 rfl rfl)
theorem dX6_lowest_26 : decode cX6_lowest 26 = .ok (.lstore 7, 2) := dk_55 7 (dk_at dksX6_lowest_1 2 rfl rfl)
theorem dX6_lowest_28 : decode cX6_lowest 28 = .ok (.goto (-22), 3) := dk_167 255 234 (dk_at dksX6_lowest_1 4 rfl rfl)
theorem dX6_lowest_31 : decode cX6_lowest 31 = .ok (.iload 4, 2) := dk_21 4 (dk_at dksX6_lowest_1 7 rfl rfl)
theorem dX6_lowest_33 : decode cX6_lowest 33 = .ok (.ifCond .ne 10, 3) := dk_154 0 10 (dk_at dksX6_lowest_1 9 rfl rfl)
theorem dX6_lowest_36 : decode cX6_lowest 36 = .ok (.lload_n 0, 1) := dk_30 (dk_at dksX6_lowest_1 12 rfl rfl)
theorem dX6_lowest_37 : decode cX6_lowest 37 = .ok (.lload 5, 2) := dk_22 5 (dk_at dksX6_lowest_1 13 rfl rfl)
theorem dX6_lowest_39 : decode cX6_lowest 39 = .ok (.ldiv, 1) := dk_109 (dk_at dksX6_lowest_1 15 rfl rfl)
theorem dX6_lowest_40 : decode cX6_lowest 40 = .ok (.goto 7, 3) := dk_167 0 7 (dk_at dksX6_lowest_1 16 rfl rfl)
theorem dX6_lowest_43 : decode cX6_lowest 43 = .ok (.lload_n 2, 1) := dk_32 (dk_at dksX6_lowest_1 19 rfl rfl)
theorem dX6_lowest_44 : decode cX6_lowest 44 = .ok (.lload 5, 2) := dk_22 5 (dk_at dksX6_lowest_1 20 rfl rfl)
theorem dX6_lowest_46 : decode cX6_lowest 46 = .ok (.ldiv, 1) := dk_109 (dk_at dksX6_lowest_1 22 rfl rfl)
theorem dX6_lowest_47 : decode cX6_lowest 47 = .ok (.lreturn, 1) := dk_173 (dk_at dksX6_lowest_1 23 rfl rfl)
abbrev cX6_seen : ByteArray := prog_11_method_58_code
def yX6_seen : MethodName := ⟨RX6, "seen", "(III)I"⟩
def dkwX6_seen_3 : List UInt8 := [180, 0, 243, 4, 96, 181, 0, 243, 42, 180, 0, 243, 4, 100, 172]
abbrev dktX6_seen_3 : List UInt8 := dkwX6_seen_3 ++ []
def dkwX6_seen_2 : List UInt8 := [79, 42, 180, 0, 73, 42, 180, 0, 243, 28, 79, 42, 180, 0, 76, 42, 180, 0, 243, 29, 79, 42, 89]
abbrev dktX6_seen_2 : List UInt8 := dkwX6_seen_2 ++ dktX6_seen_3
def dkwX6_seen_1 : List UInt8 := [16, 254, 172, 42, 180, 0, 243, 16, 10, 160, 0, 6, 16, 252, 172, 42, 180, 0, 70, 42, 180, 0, 243, 27]
abbrev dktX6_seen_1 : List UInt8 := dkwX6_seen_1 ++ dktX6_seen_2
def dkwX6_seen_0 : List UInt8 := [27, 184, 0, 152, 153, 0, 19, 28, 3, 8, 184, 0, 103, 153, 0, 10, 29, 184, 0, 155, 154, 0, 6]
abbrev dktX6_seen_0 : List UInt8 := dkwX6_seen_0 ++ dktX6_seen_1
theorem dksX6_seen_0 : cX6_seen.data.toList.drop 0 = dktX6_seen_0 := by decide +kernel
theorem dksX6_seen_1 : cX6_seen.data.toList.drop 23 = dktX6_seen_1 := dk_seg dksX6_seen_0 23 rfl rfl
theorem dksX6_seen_2 : cX6_seen.data.toList.drop 47 = dktX6_seen_2 := dk_seg dksX6_seen_1 24 rfl rfl
theorem dksX6_seen_3 : cX6_seen.data.toList.drop 70 = dktX6_seen_3 := dk_seg dksX6_seen_2 23 rfl rfl
theorem dX6_seen_0 : decode cX6_seen 0 = .ok (.iload_n 1, 1) := dk_27 (dk_at dksX6_seen_0 0 rfl rfl)
theorem dX6_seen_1 : decode cX6_seen 1 = .ok (.invokestatic 152, 3) := dk_184 0 152 (dk_at dksX6_seen_0 1 rfl rfl)
theorem dX6_seen_4 : decode cX6_seen 4 = .ok (.ifCond .eq 19, 3) := dk_153 0 19 (dk_at dksX6_seen_0 4 rfl rfl)
theorem dX6_seen_7 : decode cX6_seen 7 = .ok (.iload_n 2, 1) := dk_28 (dk_at dksX6_seen_0 7 rfl rfl)
theorem dX6_seen_8 : decode cX6_seen 8 = .ok (.iconst 0, 1) := dk_3 (dk_at dksX6_seen_0 8 rfl rfl)
theorem dX6_seen_9 : decode cX6_seen 9 = .ok (.iconst 5, 1) := dk_8 (dk_at dksX6_seen_0 9 rfl rfl)
theorem dX6_seen_10 : decode cX6_seen 10 = .ok (.invokestatic 103, 3) := dk_184 0 103 (dk_at dksX6_seen_0 10 rfl rfl)
theorem dX6_seen_13 : decode cX6_seen 13 = .ok (.ifCond .eq 10, 3) := dk_153 0 10 (dk_at dksX6_seen_0 13 rfl rfl)
theorem dX6_seen_16 : decode cX6_seen 16 = .ok (.iload_n 3, 1) := dk_29 (dk_at dksX6_seen_0 16 rfl rfl)
theorem dX6_seen_17 : decode cX6_seen 17 = .ok (.invokestatic 155, 3) := dk_184 0 155 (dk_at dksX6_seen_0 17 rfl rfl)
theorem dX6_seen_20 : decode cX6_seen 20 = .ok (.ifCond .ne 6, 3) := dk_154 0 6 (dk_at dksX6_seen_0 20 rfl rfl)
theorem dX6_seen_23 : decode cX6_seen 23 = .ok (.bipush (-2), 2) := dk_16 254 (dk_at dksX6_seen_1 0 rfl rfl)
theorem dX6_seen_25 : decode cX6_seen 25 = .ok (.ireturn, 1) := dk_172 (dk_at dksX6_seen_1 2 rfl rfl)
theorem dX6_seen_26 : decode cX6_seen 26 = .ok (.aload_n 0, 1) := dk_42 (dk_at dksX6_seen_1 3 rfl rfl)
theorem dX6_seen_27 : decode cX6_seen 27 = .ok (.getfield 243, 3) := dk_180 0 243 (dk_at dksX6_seen_1 4 rfl rfl)
theorem dX6_seen_30 : decode cX6_seen 30 = .ok (.bipush 10, 2) := dk_16 10 (dk_at dksX6_seen_1 7 rfl rfl)
theorem dX6_seen_32 : decode cX6_seen 32 = .ok (.if_icmp .ne 6, 3) := dk_160 0 6 (dk_at dksX6_seen_1 9 rfl rfl)
theorem dX6_seen_35 : decode cX6_seen 35 = .ok (.bipush (-4), 2) := dk_16 252 (dk_at dksX6_seen_1 12 rfl rfl)
theorem dX6_seen_37 : decode cX6_seen 37 = .ok (.ireturn, 1) := dk_172 (dk_at dksX6_seen_1 14 rfl rfl)
theorem dX6_seen_38 : decode cX6_seen 38 = .ok (.aload_n 0, 1) := dk_42 (dk_at dksX6_seen_1 15 rfl rfl)
theorem dX6_seen_39 : decode cX6_seen 39 = .ok (.getfield 70, 3) := dk_180 0 70 (dk_at dksX6_seen_1 16 rfl rfl)
theorem dX6_seen_42 : decode cX6_seen 42 = .ok (.aload_n 0, 1) := dk_42 (dk_at dksX6_seen_1 19 rfl rfl)
theorem dX6_seen_43 : decode cX6_seen 43 = .ok (.getfield 243, 3) := dk_180 0 243 (dk_at dksX6_seen_1 20 rfl rfl)
theorem dX6_seen_46 : decode cX6_seen 46 = .ok (.iload_n 1, 1) := dk_27 (dk_at dksX6_seen_1 23 rfl rfl)
theorem dX6_seen_47 : decode cX6_seen 47 = .ok (.iastore, 1) := dk_79 (dk_at dksX6_seen_2 0 rfl rfl)
theorem dX6_seen_48 : decode cX6_seen 48 = .ok (.aload_n 0, 1) := dk_42 (dk_at dksX6_seen_2 1 rfl rfl)
theorem dX6_seen_49 : decode cX6_seen 49 = .ok (.getfield 73, 3) := dk_180 0 73 (dk_at dksX6_seen_2 2 rfl rfl)
theorem dX6_seen_52 : decode cX6_seen 52 = .ok (.aload_n 0, 1) := dk_42 (dk_at dksX6_seen_2 5 rfl rfl)
theorem dX6_seen_53 : decode cX6_seen 53 = .ok (.getfield 243, 3) := dk_180 0 243 (dk_at dksX6_seen_2 6 rfl rfl)
theorem dX6_seen_56 : decode cX6_seen 56 = .ok (.iload_n 2, 1) := dk_28 (dk_at dksX6_seen_2 9 rfl rfl)
theorem dX6_seen_57 : decode cX6_seen 57 = .ok (.iastore, 1) := dk_79 (dk_at dksX6_seen_2 10 rfl rfl)
theorem dX6_seen_58 : decode cX6_seen 58 = .ok (.aload_n 0, 1) := dk_42 (dk_at dksX6_seen_2 11 rfl rfl)
theorem dX6_seen_59 : decode cX6_seen 59 = .ok (.getfield 76, 3) := dk_180 0 76 (dk_at dksX6_seen_2 12 rfl rfl)
theorem dX6_seen_62 : decode cX6_seen 62 = .ok (.aload_n 0, 1) := dk_42 (dk_at dksX6_seen_2 15 rfl rfl)
theorem dX6_seen_63 : decode cX6_seen 63 = .ok (.getfield 243, 3) := dk_180 0 243 (dk_at dksX6_seen_2 16 rfl rfl)
theorem dX6_seen_66 : decode cX6_seen 66 = .ok (.iload_n 3, 1) := dk_29 (dk_at dksX6_seen_2 19 rfl rfl)
theorem dX6_seen_67 : decode cX6_seen 67 = .ok (.iastore, 1) := dk_79 (dk_at dksX6_seen_2 20 rfl rfl)
theorem dX6_seen_68 : decode cX6_seen 68 = .ok (.aload_n 0, 1) := dk_42 (dk_at dksX6_seen_2 21 rfl rfl)
theorem dX6_seen_69 : decode cX6_seen 69 = .ok (.dup, 1) := dk_89 (dk_at dksX6_seen_2 22 rfl rfl)
theorem dX6_seen_70 : decode cX6_seen 70 = .ok (.getfield 243, 3) := dk_180 0 243 (dk_at dksX6_seen_3 0 rfl rfl)
theorem dX6_seen_73 : decode cX6_seen 73 = .ok (.iconst 1, 1) := dk_4 (dk_at dksX6_seen_3 3 rfl rfl)
theorem dX6_seen_74 : decode cX6_seen 74 = .ok (.iadd, 1) := dk_96 (dk_at dksX6_seen_3 4 rfl rfl)
theorem dX6_seen_75 : decode cX6_seen 75 = .ok (.putfield 243, 3) := dk_181 0 243 (dk_at dksX6_seen_3 5 rfl rfl)
theorem dX6_seen_78 : decode cX6_seen 78 = .ok (.aload_n 0, 1) := dk_42 (dk_at dksX6_seen_3 8 rfl rfl)
theorem dX6_seen_79 : decode cX6_seen 79 = .ok (.getfield 243, 3) := dk_180 0 243 (dk_at dksX6_seen_3 9 rfl rfl)
theorem dX6_seen_82 : decode cX6_seen 82 = .ok (.iconst 1, 1) := dk_4 (dk_at dksX6_seen_3 12 rfl rfl)
theorem dX6_seen_83 : decode cX6_seen 83 = .ok (.isub, 1) := dk_100 (dk_at dksX6_seen_3 13 rfl rfl)
theorem dX6_seen_84 : decode cX6_seen 84 = .ok (.ireturn, 1) := dk_172 (dk_at dksX6_seen_3 14 rfl rfl)
abbrev cX6_isFalse : ByteArray := prog_11_method_61_code
def yX6_isFalse : MethodName := ⟨RX6, "isFalse", "(II)I"⟩
def dkwX6_isFalse_1 : List UInt8 := [167, 0, 17, 42, 27, 28, 182, 0, 249, 153, 0, 7, 4, 167, 0, 4, 3, 172]
abbrev dktX6_isFalse_1 : List UInt8 := dkwX6_isFalse_1 ++ []
def dkwX6_isFalse_0 : List UInt8 := [42, 27, 182, 0, 246, 153, 0, 16, 42, 28, 182, 0, 246, 153, 0, 8, 27, 28, 160, 0, 8, 16, 254]
abbrev dktX6_isFalse_0 : List UInt8 := dkwX6_isFalse_0 ++ dktX6_isFalse_1
theorem dksX6_isFalse_0 : cX6_isFalse.data.toList.drop 0 = dktX6_isFalse_0 := by decide +kernel
theorem dksX6_isFalse_1 : cX6_isFalse.data.toList.drop 23 = dktX6_isFalse_1 := dk_seg dksX6_isFalse_0 23 rfl rfl
theorem dX6_isFalse_0 : decode cX6_isFalse 0 = .ok (.aload_n 0, 1) := dk_42 (dk_at dksX6_isFalse_0 0 rfl rfl)
theorem dX6_isFalse_1 : decode cX6_isFalse 1 = .ok (.iload_n 1, 1) := dk_27 (dk_at dksX6_isFalse_0 1 rfl rfl)
theorem dX6_isFalse_2 : decode cX6_isFalse 2 = .ok (.invokevirtual 246, 3) := dk_182 0 246 (dk_at dksX6_isFalse_0 2 rfl rfl)
theorem dX6_isFalse_5 : decode cX6_isFalse 5 = .ok (.ifCond .eq 16, 3) := dk_153 0 16 (dk_at dksX6_isFalse_0 5 rfl rfl)
theorem dX6_isFalse_8 : decode cX6_isFalse 8 = .ok (.aload_n 0, 1) := dk_42 (dk_at dksX6_isFalse_0 8 rfl rfl)
theorem dX6_isFalse_9 : decode cX6_isFalse 9 = .ok (.iload_n 2, 1) := dk_28 (dk_at dksX6_isFalse_0 9 rfl rfl)
theorem dX6_isFalse_10 : decode cX6_isFalse 10 = .ok (.invokevirtual 246, 3) := dk_182 0 246 (dk_at dksX6_isFalse_0 10 rfl rfl)
theorem dX6_isFalse_13 : decode cX6_isFalse 13 = .ok (.ifCond .eq 8, 3) := dk_153 0 8 (dk_at dksX6_isFalse_0 13 rfl rfl)
theorem dX6_isFalse_16 : decode cX6_isFalse 16 = .ok (.iload_n 1, 1) := dk_27 (dk_at dksX6_isFalse_0 16 rfl rfl)
theorem dX6_isFalse_17 : decode cX6_isFalse 17 = .ok (.iload_n 2, 1) := dk_28 (dk_at dksX6_isFalse_0 17 rfl rfl)
theorem dX6_isFalse_18 : decode cX6_isFalse 18 = .ok (.if_icmp .ne 8, 3) := dk_160 0 8 (dk_at dksX6_isFalse_0 18 rfl rfl)
theorem dX6_isFalse_21 : decode cX6_isFalse 21 = .ok (.bipush (-2), 2) := dk_16 254 (dk_at dksX6_isFalse_0 21 rfl rfl)
theorem dX6_isFalse_23 : decode cX6_isFalse 23 = .ok (.goto 17, 3) := dk_167 0 17 (dk_at dksX6_isFalse_1 0 rfl rfl)
theorem dX6_isFalse_26 : decode cX6_isFalse 26 = .ok (.aload_n 0, 1) := dk_42 (dk_at dksX6_isFalse_1 3 rfl rfl)
theorem dX6_isFalse_27 : decode cX6_isFalse 27 = .ok (.iload_n 1, 1) := dk_27 (dk_at dksX6_isFalse_1 4 rfl rfl)
theorem dX6_isFalse_28 : decode cX6_isFalse 28 = .ok (.iload_n 2, 1) := dk_28 (dk_at dksX6_isFalse_1 5 rfl rfl)
theorem dX6_isFalse_29 : decode cX6_isFalse 29 = .ok (.invokevirtual 249, 3) := dk_182 0 249 (dk_at dksX6_isFalse_1 6 rfl rfl)
theorem dX6_isFalse_32 : decode cX6_isFalse 32 = .ok (.ifCond .eq 7, 3) := dk_153 0 7 (dk_at dksX6_isFalse_1 9 rfl rfl)
theorem dX6_isFalse_35 : decode cX6_isFalse 35 = .ok (.iconst 1, 1) := dk_4 (dk_at dksX6_isFalse_1 12 rfl rfl)
theorem dX6_isFalse_36 : decode cX6_isFalse 36 = .ok (.goto 4, 3) := dk_167 0 4 (dk_at dksX6_isFalse_1 13 rfl rfl)
theorem dX6_isFalse_39 : decode cX6_isFalse 39 = .ok (.iconst 0, 1) := dk_3 (dk_at dksX6_isFalse_1 16 rfl rfl)
theorem dX6_isFalse_40 : decode cX6_isFalse 40 = .ok (.ireturn, 1) := dk_172 (dk_at dksX6_isFalse_1 17 rfl rfl)
abbrev cX6_isSight : ByteArray := prog_11_method_60_code
def yX6_isSight : MethodName := ⟨RX6, "isSight", "(I)Z"⟩
def dkwX6_isSight_0 : List UInt8 := [27, 3, 42, 180, 0, 243, 4, 100, 184, 0, 103, 172]
abbrev dktX6_isSight_0 : List UInt8 := dkwX6_isSight_0 ++ []
theorem dksX6_isSight_0 : cX6_isSight.data.toList.drop 0 = dktX6_isSight_0 := by decide +kernel
theorem dX6_isSight_0 : decode cX6_isSight 0 = .ok (.iload_n 1, 1) := dk_27 (dk_at dksX6_isSight_0 0 rfl rfl)
theorem dX6_isSight_1 : decode cX6_isSight 1 = .ok (.iconst 0, 1) := dk_3 (dk_at dksX6_isSight_0 1 rfl rfl)
theorem dX6_isSight_2 : decode cX6_isSight 2 = .ok (.aload_n 0, 1) := dk_42 (dk_at dksX6_isSight_0 2 rfl rfl)
theorem dX6_isSight_3 : decode cX6_isSight 3 = .ok (.getfield 243, 3) := dk_180 0 243 (dk_at dksX6_isSight_0 3 rfl rfl)
theorem dX6_isSight_6 : decode cX6_isSight 6 = .ok (.iconst 1, 1) := dk_4 (dk_at dksX6_isSight_0 6 rfl rfl)
theorem dX6_isSight_7 : decode cX6_isSight 7 = .ok (.isub, 1) := dk_100 (dk_at dksX6_isSight_0 7 rfl rfl)
theorem dX6_isSight_8 : decode cX6_isSight 8 = .ok (.invokestatic 103, 3) := dk_184 0 103 (dk_at dksX6_isSight_0 8 rfl rfl)
theorem dX6_isSight_11 : decode cX6_isSight 11 = .ok (.ireturn, 1) := dk_172 (dk_at dksX6_isSight_0 11 rfl rfl)
abbrev cX6_areFalse : ByteArray := prog_11_method_59_code
def yX6_areFalse : MethodName := ⟨RX6, "areFalse", "(II)Z"⟩
def dkwX6_areFalse_3 : List UInt8 := [154, 0, 18, 29, 4, 159, 0, 8, 29, 2, 160, 0, 12, 21, 5, 153, 0, 7, 4, 167, 0, 4, 3, 172]
abbrev dktX6_areFalse_3 : List UInt8 := dkwX6_areFalse_3 ++ []
def dkwX6_areFalse_2 : List UInt8 := [54, 5, 42, 180, 0, 70, 27, 46, 42, 180, 0, 70, 28, 46, 160, 0, 31, 29, 154, 0, 8, 21, 4]
abbrev dktX6_areFalse_2 : List UInt8 := dkwX6_areFalse_2 ++ dktX6_areFalse_3
def dkwX6_areFalse_1 : List UInt8 := [28, 46, 100, 54, 4, 21, 4, 5, 163, 0, 10, 21, 4, 16, 254, 162, 0, 7, 4, 167, 0, 4, 3]
abbrev dktX6_areFalse_1 : List UInt8 := dkwX6_areFalse_1 ++ dktX6_areFalse_2
def dkwX6_areFalse_0 : List UInt8 := [42, 180, 0, 76, 27, 46, 42, 180, 0, 76, 28, 46, 100, 62, 42, 180, 0, 73, 27, 46, 42, 180, 0, 73]
abbrev dktX6_areFalse_0 : List UInt8 := dkwX6_areFalse_0 ++ dktX6_areFalse_1
theorem dksX6_areFalse_0 : cX6_areFalse.data.toList.drop 0 = dktX6_areFalse_0 := by decide +kernel
theorem dksX6_areFalse_1 : cX6_areFalse.data.toList.drop 24 = dktX6_areFalse_1 := dk_seg dksX6_areFalse_0 24 rfl rfl
theorem dksX6_areFalse_2 : cX6_areFalse.data.toList.drop 47 = dktX6_areFalse_2 := dk_seg dksX6_areFalse_1 23 rfl rfl
theorem dksX6_areFalse_3 : cX6_areFalse.data.toList.drop 70 = dktX6_areFalse_3 := dk_seg dksX6_areFalse_2 23 rfl rfl
theorem dX6_areFalse_0 : decode cX6_areFalse 0 = .ok (.aload_n 0, 1) := dk_42 (dk_at dksX6_areFalse_0 0 rfl rfl)
theorem dX6_areFalse_1 : decode cX6_areFalse 1 = .ok (.getfield 76, 3) := dk_180 0 76 (dk_at dksX6_areFalse_0 1 rfl rfl)
theorem dX6_areFalse_4 : decode cX6_areFalse 4 = .ok (.iload_n 1, 1) := dk_27 (dk_at dksX6_areFalse_0 4 rfl rfl)
theorem dX6_areFalse_5 : decode cX6_areFalse 5 = .ok (.iaload, 1) := dk_46 (dk_at dksX6_areFalse_0 5 rfl rfl)
theorem dX6_areFalse_6 : decode cX6_areFalse 6 = .ok (.aload_n 0, 1) := dk_42 (dk_at dksX6_areFalse_0 6 rfl rfl)
theorem dX6_areFalse_7 : decode cX6_areFalse 7 = .ok (.getfield 76, 3) := dk_180 0 76 (dk_at dksX6_areFalse_0 7 rfl rfl)
theorem dX6_areFalse_10 : decode cX6_areFalse 10 = .ok (.iload_n 2, 1) := dk_28 (dk_at dksX6_areFalse_0 10 rfl rfl)
theorem dX6_areFalse_11 : decode cX6_areFalse 11 = .ok (.iaload, 1) := dk_46 (dk_at dksX6_areFalse_0 11 rfl rfl)
theorem dX6_areFalse_12 : decode cX6_areFalse 12 = .ok (.isub, 1) := dk_100 (dk_at dksX6_areFalse_0 12 rfl rfl)
theorem dX6_areFalse_13 : decode cX6_areFalse 13 = .ok (.istore_n 3, 1) := dk_62 (dk_at dksX6_areFalse_0 13 rfl rfl)
theorem dX6_areFalse_14 : decode cX6_areFalse 14 = .ok (.aload_n 0, 1) := dk_42 (dk_at dksX6_areFalse_0 14 rfl rfl)
theorem dX6_areFalse_15 : decode cX6_areFalse 15 = .ok (.getfield 73, 3) := dk_180 0 73 (dk_at dksX6_areFalse_0 15 rfl rfl)
theorem dX6_areFalse_18 : decode cX6_areFalse 18 = .ok (.iload_n 1, 1) := dk_27 (dk_at dksX6_areFalse_0 18 rfl rfl)
theorem dX6_areFalse_19 : decode cX6_areFalse 19 = .ok (.iaload, 1) := dk_46 (dk_at dksX6_areFalse_0 19 rfl rfl)
theorem dX6_areFalse_20 : decode cX6_areFalse 20 = .ok (.aload_n 0, 1) := dk_42 (dk_at dksX6_areFalse_0 20 rfl rfl)
theorem dX6_areFalse_21 : decode cX6_areFalse 21 = .ok (.getfield 73, 3) := dk_180 0 73 (dk_at dksX6_areFalse_0 21 rfl rfl)
theorem dX6_areFalse_24 : decode cX6_areFalse 24 = .ok (.iload_n 2, 1) := dk_28 (dk_at dksX6_areFalse_1 0 rfl rfl)
theorem dX6_areFalse_25 : decode cX6_areFalse 25 = .ok (.iaload, 1) := dk_46 (dk_at dksX6_areFalse_1 1 rfl rfl)
theorem dX6_areFalse_26 : decode cX6_areFalse 26 = .ok (.isub, 1) := dk_100 (dk_at dksX6_areFalse_1 2 rfl rfl)
theorem dX6_areFalse_27 : decode cX6_areFalse 27 = .ok (.istore 4, 2) := dk_54 4 (dk_at dksX6_areFalse_1 3 rfl rfl)
theorem dX6_areFalse_29 : decode cX6_areFalse 29 = .ok (.iload 4, 2) := dk_21 4 (dk_at dksX6_areFalse_1 5 rfl rfl)
theorem dX6_areFalse_31 : decode cX6_areFalse 31 = .ok (.iconst 2, 1) := dk_5 (dk_at dksX6_areFalse_1 7 rfl rfl)
theorem dX6_areFalse_32 : decode cX6_areFalse 32 = .ok (.if_icmp .gt 10, 3) := dk_163 0 10 (dk_at dksX6_areFalse_1 8 rfl rfl)
theorem dX6_areFalse_35 : decode cX6_areFalse 35 = .ok (.iload 4, 2) := dk_21 4 (dk_at dksX6_areFalse_1 11 rfl rfl)
theorem dX6_areFalse_37 : decode cX6_areFalse 37 = .ok (.bipush (-2), 2) := dk_16 254 (dk_at dksX6_areFalse_1 13 rfl rfl)
theorem dX6_areFalse_39 : decode cX6_areFalse 39 = .ok (.if_icmp .ge 7, 3) := dk_162 0 7 (dk_at dksX6_areFalse_1 15 rfl rfl)
theorem dX6_areFalse_42 : decode cX6_areFalse 42 = .ok (.iconst 1, 1) := dk_4 (dk_at dksX6_areFalse_1 18 rfl rfl)
theorem dX6_areFalse_43 : decode cX6_areFalse 43 = .ok (.goto 4, 3) := dk_167 0 4 (dk_at dksX6_areFalse_1 19 rfl rfl)
theorem dX6_areFalse_46 : decode cX6_areFalse 46 = .ok (.iconst 0, 1) := dk_3 (dk_at dksX6_areFalse_1 22 rfl rfl)
theorem dX6_areFalse_47 : decode cX6_areFalse 47 = .ok (.istore 5, 2) := dk_54 5 (dk_at dksX6_areFalse_2 0 rfl rfl)
theorem dX6_areFalse_49 : decode cX6_areFalse 49 = .ok (.aload_n 0, 1) := dk_42 (dk_at dksX6_areFalse_2 2 rfl rfl)
theorem dX6_areFalse_50 : decode cX6_areFalse 50 = .ok (.getfield 70, 3) := dk_180 0 70 (dk_at dksX6_areFalse_2 3 rfl rfl)
theorem dX6_areFalse_53 : decode cX6_areFalse 53 = .ok (.iload_n 1, 1) := dk_27 (dk_at dksX6_areFalse_2 6 rfl rfl)
theorem dX6_areFalse_54 : decode cX6_areFalse 54 = .ok (.iaload, 1) := dk_46 (dk_at dksX6_areFalse_2 7 rfl rfl)
theorem dX6_areFalse_55 : decode cX6_areFalse 55 = .ok (.aload_n 0, 1) := dk_42 (dk_at dksX6_areFalse_2 8 rfl rfl)
theorem dX6_areFalse_56 : decode cX6_areFalse 56 = .ok (.getfield 70, 3) := dk_180 0 70 (dk_at dksX6_areFalse_2 9 rfl rfl)
theorem dX6_areFalse_59 : decode cX6_areFalse 59 = .ok (.iload_n 2, 1) := dk_28 (dk_at dksX6_areFalse_2 12 rfl rfl)
theorem dX6_areFalse_60 : decode cX6_areFalse 60 = .ok (.iaload, 1) := dk_46 (dk_at dksX6_areFalse_2 13 rfl rfl)
theorem dX6_areFalse_61 : decode cX6_areFalse 61 = .ok (.if_icmp .ne 31, 3) := dk_160 0 31 (dk_at dksX6_areFalse_2 14 rfl rfl)
theorem dX6_areFalse_64 : decode cX6_areFalse 64 = .ok (.iload_n 3, 1) := dk_29 (dk_at dksX6_areFalse_2 17 rfl rfl)
theorem dX6_areFalse_65 : decode cX6_areFalse 65 = .ok (.ifCond .ne 8, 3) := dk_154 0 8 (dk_at dksX6_areFalse_2 18 rfl rfl)
theorem dX6_areFalse_68 : decode cX6_areFalse 68 = .ok (.iload 4, 2) := dk_21 4 (dk_at dksX6_areFalse_2 21 rfl rfl)
theorem dX6_areFalse_70 : decode cX6_areFalse 70 = .ok (.ifCond .ne 18, 3) := dk_154 0 18 (dk_at dksX6_areFalse_3 0 rfl rfl)
theorem dX6_areFalse_73 : decode cX6_areFalse 73 = .ok (.iload_n 3, 1) := dk_29 (dk_at dksX6_areFalse_3 3 rfl rfl)
theorem dX6_areFalse_74 : decode cX6_areFalse 74 = .ok (.iconst 1, 1) := dk_4 (dk_at dksX6_areFalse_3 4 rfl rfl)
theorem dX6_areFalse_75 : decode cX6_areFalse 75 = .ok (.if_icmp .eq 8, 3) := dk_159 0 8 (dk_at dksX6_areFalse_3 5 rfl rfl)
theorem dX6_areFalse_78 : decode cX6_areFalse 78 = .ok (.iload_n 3, 1) := dk_29 (dk_at dksX6_areFalse_3 8 rfl rfl)
theorem dX6_areFalse_79 : decode cX6_areFalse 79 = .ok (.iconst (-1), 1) := dk_2 (dk_at dksX6_areFalse_3 9 rfl rfl)
theorem dX6_areFalse_80 : decode cX6_areFalse 80 = .ok (.if_icmp .ne 12, 3) := dk_160 0 12 (dk_at dksX6_areFalse_3 10 rfl rfl)
theorem dX6_areFalse_83 : decode cX6_areFalse 83 = .ok (.iload 5, 2) := dk_21 5 (dk_at dksX6_areFalse_3 13 rfl rfl)
theorem dX6_areFalse_85 : decode cX6_areFalse 85 = .ok (.ifCond .eq 7, 3) := dk_153 0 7 (dk_at dksX6_areFalse_3 15 rfl rfl)
theorem dX6_areFalse_88 : decode cX6_areFalse 88 = .ok (.iconst 1, 1) := dk_4 (dk_at dksX6_areFalse_3 18 rfl rfl)
theorem dX6_areFalse_89 : decode cX6_areFalse 89 = .ok (.goto 4, 3) := dk_167 0 4 (dk_at dksX6_areFalse_3 19 rfl rfl)
theorem dX6_areFalse_92 : decode cX6_areFalse 92 = .ok (.iconst 0, 1) := dk_3 (dk_at dksX6_areFalse_3 22 rfl rfl)
theorem dX6_areFalse_93 : decode cX6_areFalse 93 = .ok (.ireturn, 1) := dk_172 (dk_at dksX6_areFalse_3 23 rfl rfl)
abbrev cX6_hats : ByteArray := prog_11_method_63_code
def yX6_hats : MethodName := ⟨RX6, "hats", "(I)I"⟩
def dkwX6_hats_0 : List UInt8 := [27, 3, 4, 184, 0, 103, 153, 0, 11, 42, 27, 182, 0, 252, 167, 0, 5, 16, 254, 172]
abbrev dktX6_hats_0 : List UInt8 := dkwX6_hats_0 ++ []
theorem dksX6_hats_0 : cX6_hats.data.toList.drop 0 = dktX6_hats_0 := by decide +kernel
theorem dX6_hats_0 : decode cX6_hats 0 = .ok (.iload_n 1, 1) := dk_27 (dk_at dksX6_hats_0 0 rfl rfl)
theorem dX6_hats_1 : decode cX6_hats 1 = .ok (.iconst 0, 1) := dk_3 (dk_at dksX6_hats_0 1 rfl rfl)
theorem dX6_hats_2 : decode cX6_hats 2 = .ok (.iconst 1, 1) := dk_4 (dk_at dksX6_hats_0 2 rfl rfl)
theorem dX6_hats_3 : decode cX6_hats 3 = .ok (.invokestatic 103, 3) := dk_184 0 103 (dk_at dksX6_hats_0 3 rfl rfl)
theorem dX6_hats_6 : decode cX6_hats 6 = .ok (.ifCond .eq 11, 3) := dk_153 0 11 (dk_at dksX6_hats_0 6 rfl rfl)
theorem dX6_hats_9 : decode cX6_hats 9 = .ok (.aload_n 0, 1) := dk_42 (dk_at dksX6_hats_0 9 rfl rfl)
theorem dX6_hats_10 : decode cX6_hats 10 = .ok (.iload_n 1, 1) := dk_27 (dk_at dksX6_hats_0 10 rfl rfl)
theorem dX6_hats_11 : decode cX6_hats 11 = .ok (.invokevirtual 252, 3) := dk_182 0 252 (dk_at dksX6_hats_0 11 rfl rfl)
theorem dX6_hats_14 : decode cX6_hats 14 = .ok (.goto 5, 3) := dk_167 0 5 (dk_at dksX6_hats_0 14 rfl rfl)
theorem dX6_hats_17 : decode cX6_hats 17 = .ok (.bipush (-2), 2) := dk_16 254 (dk_at dksX6_hats_0 17 rfl rfl)
theorem dX6_hats_19 : decode cX6_hats 19 = .ok (.ireturn, 1) := dk_172 (dk_at dksX6_hats_0 19 rfl rfl)
abbrev cX6_hatsOf : ByteArray := prog_11_method_62_code
def yX6_hatsOf : MethodName := ⟨RX6, "hatsOf", "(I)I"⟩
def dkwX6_hatsOf_5 : List UInt8 := [132, 3, 1, 167, 255, 138, 27, 154, 0, 10, 28, 184, 0, 164, 167, 0, 4, 28, 172]
abbrev dktX6_hatsOf_5 : List UInt8 := dkwX6_hatsOf_5 ++ []
def dkwX6_hatsOf_4 : List UInt8 := [132, 6, 1, 167, 255, 205, 132, 5, 1, 167, 255, 187, 21, 4, 153, 0, 7, 29, 167, 0, 4, 28, 61]
abbrev dktX6_hatsOf_4 : List UInt8 := dkwX6_hatsOf_4 ++ dktX6_hatsOf_5
def dkwX6_hatsOf_3 : List UInt8 := [184, 0, 119, 154, 0, 14, 42, 21, 5, 21, 6, 182, 0, 249, 154, 0, 7, 4, 167, 0, 4, 3, 54, 4]
abbrev dktX6_hatsOf_3 : List UInt8 := dkwX6_hatsOf_3 ++ dktX6_hatsOf_4
def dkwX6_hatsOf_2 : List UInt8 := [21, 6, 21, 5, 162, 0, 50, 21, 4, 153, 0, 36, 29, 21, 5, 184, 0, 119, 154, 0, 23, 29, 21, 6]
abbrev dktX6_hatsOf_2 : List UInt8 := dkwX6_hatsOf_2 ++ dktX6_hatsOf_3
def dkwX6_hatsOf_1 : List UInt8 := [184, 0, 164, 162, 0, 92, 4, 54, 4, 3, 54, 5, 21, 5, 42, 180, 0, 243, 162, 0, 66, 3, 54, 6]
abbrev dktX6_hatsOf_1 : List UInt8 := dkwX6_hatsOf_1 ++ dktX6_hatsOf_2
def dkwX6_hatsOf_0 : List UInt8 := [2, 61, 3, 62, 29, 4, 42, 180, 0, 243, 120, 162, 0, 114, 28, 2, 159, 0, 14, 29, 184, 0, 164, 28]
abbrev dktX6_hatsOf_0 : List UInt8 := dkwX6_hatsOf_0 ++ dktX6_hatsOf_1
theorem dksX6_hatsOf_0 : cX6_hatsOf.data.toList.drop 0 = dktX6_hatsOf_0 := by decide +kernel
theorem dksX6_hatsOf_1 : cX6_hatsOf.data.toList.drop 24 = dktX6_hatsOf_1 := dk_seg dksX6_hatsOf_0 24 rfl rfl
theorem dksX6_hatsOf_2 : cX6_hatsOf.data.toList.drop 48 = dktX6_hatsOf_2 := dk_seg dksX6_hatsOf_1 24 rfl rfl
theorem dksX6_hatsOf_3 : cX6_hatsOf.data.toList.drop 72 = dktX6_hatsOf_3 := dk_seg dksX6_hatsOf_2 24 rfl rfl
theorem dksX6_hatsOf_4 : cX6_hatsOf.data.toList.drop 96 = dktX6_hatsOf_4 := dk_seg dksX6_hatsOf_3 24 rfl rfl
theorem dksX6_hatsOf_5 : cX6_hatsOf.data.toList.drop 119 = dktX6_hatsOf_5 := dk_seg dksX6_hatsOf_4 23 rfl rfl
theorem dX6_hatsOf_0 : decode cX6_hatsOf 0 = .ok (.iconst (-1), 1) := dk_2 (dk_at dksX6_hatsOf_0 0 rfl rfl)
theorem dX6_hatsOf_1 : decode cX6_hatsOf 1 = .ok (.istore_n 2, 1) := dk_61 (dk_at dksX6_hatsOf_0 1 rfl rfl)
theorem dX6_hatsOf_2 : decode cX6_hatsOf 2 = .ok (.iconst 0, 1) := dk_3 (dk_at dksX6_hatsOf_0 2 rfl rfl)
theorem dX6_hatsOf_3 : decode cX6_hatsOf 3 = .ok (.istore_n 3, 1) := dk_62 (dk_at dksX6_hatsOf_0 3 rfl rfl)
theorem dX6_hatsOf_4 : decode cX6_hatsOf 4 = .ok (.iload_n 3, 1) := dk_29 (dk_at dksX6_hatsOf_0 4 rfl rfl)
theorem dX6_hatsOf_5 : decode cX6_hatsOf 5 = .ok (.iconst 1, 1) := dk_4 (dk_at dksX6_hatsOf_0 5 rfl rfl)
theorem dX6_hatsOf_6 : decode cX6_hatsOf 6 = .ok (.aload_n 0, 1) := dk_42 (dk_at dksX6_hatsOf_0 6 rfl rfl)
theorem dX6_hatsOf_7 : decode cX6_hatsOf 7 = .ok (.getfield 243, 3) := dk_180 0 243 (dk_at dksX6_hatsOf_0 7 rfl rfl)
theorem dX6_hatsOf_10 : decode cX6_hatsOf 10 = .ok (.ishl, 1) := dk_120 (dk_at dksX6_hatsOf_0 10 rfl rfl)
theorem dX6_hatsOf_11 : decode cX6_hatsOf 11 = .ok (.if_icmp .ge 114, 3) := dk_162 0 114 (dk_at dksX6_hatsOf_0 11 rfl rfl)
theorem dX6_hatsOf_14 : decode cX6_hatsOf 14 = .ok (.iload_n 2, 1) := dk_28 (dk_at dksX6_hatsOf_0 14 rfl rfl)
theorem dX6_hatsOf_15 : decode cX6_hatsOf 15 = .ok (.iconst (-1), 1) := dk_2 (dk_at dksX6_hatsOf_0 15 rfl rfl)
theorem dX6_hatsOf_16 : decode cX6_hatsOf 16 = .ok (.if_icmp .eq 14, 3) := dk_159 0 14 (dk_at dksX6_hatsOf_0 16 rfl rfl)
theorem dX6_hatsOf_19 : decode cX6_hatsOf 19 = .ok (.iload_n 3, 1) := dk_29 (dk_at dksX6_hatsOf_0 19 rfl rfl)
theorem dX6_hatsOf_20 : decode cX6_hatsOf 20 = .ok (.invokestatic 164, 3) := dk_184 0 164 (dk_at dksX6_hatsOf_0 20 rfl rfl)
theorem dX6_hatsOf_23 : decode cX6_hatsOf 23 = .ok (.iload_n 2, 1) := dk_28 (dk_at dksX6_hatsOf_0 23 rfl rfl)
theorem dX6_hatsOf_24 : decode cX6_hatsOf 24 = .ok (.invokestatic 164, 3) := dk_184 0 164 (dk_at dksX6_hatsOf_1 0 rfl rfl)
theorem dX6_hatsOf_27 : decode cX6_hatsOf 27 = .ok (.if_icmp .ge 92, 3) := dk_162 0 92 (dk_at dksX6_hatsOf_1 3 rfl rfl)
theorem dX6_hatsOf_30 : decode cX6_hatsOf 30 = .ok (.iconst 1, 1) := dk_4 (dk_at dksX6_hatsOf_1 6 rfl rfl)
theorem dX6_hatsOf_31 : decode cX6_hatsOf 31 = .ok (.istore 4, 2) := dk_54 4 (dk_at dksX6_hatsOf_1 7 rfl rfl)
theorem dX6_hatsOf_33 : decode cX6_hatsOf 33 = .ok (.iconst 0, 1) := dk_3 (dk_at dksX6_hatsOf_1 9 rfl rfl)
theorem dX6_hatsOf_34 : decode cX6_hatsOf 34 = .ok (.istore 5, 2) := dk_54 5 (dk_at dksX6_hatsOf_1 10 rfl rfl)
theorem dX6_hatsOf_36 : decode cX6_hatsOf 36 = .ok (.iload 5, 2) := dk_21 5 (dk_at dksX6_hatsOf_1 12 rfl rfl)
theorem dX6_hatsOf_38 : decode cX6_hatsOf 38 = .ok (.aload_n 0, 1) := dk_42 (dk_at dksX6_hatsOf_1 14 rfl rfl)
theorem dX6_hatsOf_39 : decode cX6_hatsOf 39 = .ok (.getfield 243, 3) := dk_180 0 243 (dk_at dksX6_hatsOf_1 15 rfl rfl)
theorem dX6_hatsOf_42 : decode cX6_hatsOf 42 = .ok (.if_icmp .ge 66, 3) := dk_162 0 66 (dk_at dksX6_hatsOf_1 18 rfl rfl)
theorem dX6_hatsOf_45 : decode cX6_hatsOf 45 = .ok (.iconst 0, 1) := dk_3 (dk_at dksX6_hatsOf_1 21 rfl rfl)
theorem dX6_hatsOf_46 : decode cX6_hatsOf 46 = .ok (.istore 6, 2) := dk_54 6 (dk_at dksX6_hatsOf_1 22 rfl rfl)
theorem dX6_hatsOf_48 : decode cX6_hatsOf 48 = .ok (.iload 6, 2) := dk_21 6 (dk_at dksX6_hatsOf_2 0 rfl rfl)
theorem dX6_hatsOf_50 : decode cX6_hatsOf 50 = .ok (.iload 5, 2) := dk_21 5 (dk_at dksX6_hatsOf_2 2 rfl rfl)
theorem dX6_hatsOf_52 : decode cX6_hatsOf 52 = .ok (.if_icmp .ge 50, 3) := dk_162 0 50 (dk_at dksX6_hatsOf_2 4 rfl rfl)
theorem dX6_hatsOf_55 : decode cX6_hatsOf 55 = .ok (.iload 4, 2) := dk_21 4 (dk_at dksX6_hatsOf_2 7 rfl rfl)
theorem dX6_hatsOf_57 : decode cX6_hatsOf 57 = .ok (.ifCond .eq 36, 3) := dk_153 0 36 (dk_at dksX6_hatsOf_2 9 rfl rfl)
theorem dX6_hatsOf_60 : decode cX6_hatsOf 60 = .ok (.iload_n 3, 1) := dk_29 (dk_at dksX6_hatsOf_2 12 rfl rfl)
theorem dX6_hatsOf_61 : decode cX6_hatsOf 61 = .ok (.iload 5, 2) := dk_21 5 (dk_at dksX6_hatsOf_2 13 rfl rfl)
theorem dX6_hatsOf_63 : decode cX6_hatsOf 63 = .ok (.invokestatic 119, 3) := dk_184 0 119 (dk_at dksX6_hatsOf_2 15 rfl rfl)
theorem dX6_hatsOf_66 : decode cX6_hatsOf 66 = .ok (.ifCond .ne 23, 3) := dk_154 0 23 (dk_at dksX6_hatsOf_2 18 rfl rfl)
theorem dX6_hatsOf_69 : decode cX6_hatsOf 69 = .ok (.iload_n 3, 1) := dk_29 (dk_at dksX6_hatsOf_2 21 rfl rfl)
theorem dX6_hatsOf_70 : decode cX6_hatsOf 70 = .ok (.iload 6, 2) := dk_21 6 (dk_at dksX6_hatsOf_2 22 rfl rfl)
theorem dX6_hatsOf_72 : decode cX6_hatsOf 72 = .ok (.invokestatic 119, 3) := dk_184 0 119 (dk_at dksX6_hatsOf_3 0 rfl rfl)
theorem dX6_hatsOf_75 : decode cX6_hatsOf 75 = .ok (.ifCond .ne 14, 3) := dk_154 0 14 (dk_at dksX6_hatsOf_3 3 rfl rfl)
theorem dX6_hatsOf_78 : decode cX6_hatsOf 78 = .ok (.aload_n 0, 1) := dk_42 (dk_at dksX6_hatsOf_3 6 rfl rfl)
theorem dX6_hatsOf_79 : decode cX6_hatsOf 79 = .ok (.iload 5, 2) := dk_21 5 (dk_at dksX6_hatsOf_3 7 rfl rfl)
theorem dX6_hatsOf_81 : decode cX6_hatsOf 81 = .ok (.iload 6, 2) := dk_21 6 (dk_at dksX6_hatsOf_3 9 rfl rfl)
theorem dX6_hatsOf_83 : decode cX6_hatsOf 83 = .ok (.invokevirtual 249, 3) := dk_182 0 249 (dk_at dksX6_hatsOf_3 11 rfl rfl)
theorem dX6_hatsOf_86 : decode cX6_hatsOf 86 = .ok (.ifCond .ne 7, 3) := dk_154 0 7 (dk_at dksX6_hatsOf_3 14 rfl rfl)
theorem dX6_hatsOf_89 : decode cX6_hatsOf 89 = .ok (.iconst 1, 1) := dk_4 (dk_at dksX6_hatsOf_3 17 rfl rfl)
theorem dX6_hatsOf_90 : decode cX6_hatsOf 90 = .ok (.goto 4, 3) := dk_167 0 4 (dk_at dksX6_hatsOf_3 18 rfl rfl)
theorem dX6_hatsOf_93 : decode cX6_hatsOf 93 = .ok (.iconst 0, 1) := dk_3 (dk_at dksX6_hatsOf_3 21 rfl rfl)
theorem dX6_hatsOf_94 : decode cX6_hatsOf 94 = .ok (.istore 4, 2) := dk_54 4 (dk_at dksX6_hatsOf_3 22 rfl rfl)
theorem dX6_hatsOf_96 : decode cX6_hatsOf 96 = .ok (.iinc 6 1, 3) := dk_132 6 1 (dk_at dksX6_hatsOf_4 0 rfl rfl)
theorem dX6_hatsOf_99 : decode cX6_hatsOf 99 = .ok (.goto (-51), 3) := dk_167 255 205 (dk_at dksX6_hatsOf_4 3 rfl rfl)
theorem dX6_hatsOf_102 : decode cX6_hatsOf 102 = .ok (.iinc 5 1, 3) := dk_132 5 1 (dk_at dksX6_hatsOf_4 6 rfl rfl)
theorem dX6_hatsOf_105 : decode cX6_hatsOf 105 = .ok (.goto (-69), 3) := dk_167 255 187 (dk_at dksX6_hatsOf_4 9 rfl rfl)
theorem dX6_hatsOf_108 : decode cX6_hatsOf 108 = .ok (.iload 4, 2) := dk_21 4 (dk_at dksX6_hatsOf_4 12 rfl rfl)
theorem dX6_hatsOf_110 : decode cX6_hatsOf 110 = .ok (.ifCond .eq 7, 3) := dk_153 0 7 (dk_at dksX6_hatsOf_4 14 rfl rfl)
theorem dX6_hatsOf_113 : decode cX6_hatsOf 113 = .ok (.iload_n 3, 1) := dk_29 (dk_at dksX6_hatsOf_4 17 rfl rfl)
theorem dX6_hatsOf_114 : decode cX6_hatsOf 114 = .ok (.goto 4, 3) := dk_167 0 4 (dk_at dksX6_hatsOf_4 18 rfl rfl)
theorem dX6_hatsOf_117 : decode cX6_hatsOf 117 = .ok (.iload_n 2, 1) := dk_28 (dk_at dksX6_hatsOf_4 21 rfl rfl)
theorem dX6_hatsOf_118 : decode cX6_hatsOf 118 = .ok (.istore_n 2, 1) := dk_61 (dk_at dksX6_hatsOf_4 22 rfl rfl)
theorem dX6_hatsOf_119 : decode cX6_hatsOf 119 = .ok (.iinc 3 1, 3) := dk_132 3 1 (dk_at dksX6_hatsOf_5 0 rfl rfl)
theorem dX6_hatsOf_122 : decode cX6_hatsOf 122 = .ok (.goto (-118), 3) := dk_167 255 138 (dk_at dksX6_hatsOf_5 3 rfl rfl)
theorem dX6_hatsOf_125 : decode cX6_hatsOf 125 = .ok (.iload_n 1, 1) := dk_27 (dk_at dksX6_hatsOf_5 6 rfl rfl)
theorem dX6_hatsOf_126 : decode cX6_hatsOf 126 = .ok (.ifCond .ne 10, 3) := dk_154 0 10 (dk_at dksX6_hatsOf_5 7 rfl rfl)
theorem dX6_hatsOf_129 : decode cX6_hatsOf 129 = .ok (.iload_n 2, 1) := dk_28 (dk_at dksX6_hatsOf_5 10 rfl rfl)
theorem dX6_hatsOf_130 : decode cX6_hatsOf 130 = .ok (.invokestatic 164, 3) := dk_184 0 164 (dk_at dksX6_hatsOf_5 11 rfl rfl)
theorem dX6_hatsOf_133 : decode cX6_hatsOf 133 = .ok (.goto 4, 3) := dk_167 0 4 (dk_at dksX6_hatsOf_5 14 rfl rfl)
theorem dX6_hatsOf_136 : decode cX6_hatsOf 136 = .ok (.iload_n 2, 1) := dk_28 (dk_at dksX6_hatsOf_5 17 rfl rfl)
theorem dX6_hatsOf_137 : decode cX6_hatsOf 137 = .ok (.ireturn, 1) := dk_172 (dk_at dksX6_hatsOf_5 18 rfl rfl)
abbrev cX6_after : ByteArray := prog_11_method_64_code
def yX6_after : MethodName := ⟨RX6, "after", "(II)I"⟩
def dkwX6_after_3 : List UInt8 := [181, 0, 255, 42, 180, 0, 255, 172]
abbrev dktX6_after_3 : List UInt8 := dkwX6_after_3 ++ []
def dkwX6_after_2 : List UInt8 := [180, 0, 255, 27, 79, 42, 180, 0, 82, 42, 180, 0, 255, 28, 79, 42, 89, 180, 0, 255, 4, 96]
abbrev dktX6_after_2 : List UInt8 := dkwX6_after_2 ++ dktX6_after_3
def dkwX6_after_1 : List UInt8 := [160, 0, 6, 16, 254, 172, 42, 180, 0, 255, 16, 10, 160, 0, 6, 16, 252, 172, 42, 180, 0, 79, 42]
abbrev dktX6_after_1 : List UInt8 := dkwX6_after_1 ++ dktX6_after_2
def dkwX6_after_0 : List UInt8 := [27, 3, 16, 7, 184, 0, 103, 153, 0, 18, 28, 3, 16, 7, 184, 0, 103, 153, 0, 8, 27, 28]
abbrev dktX6_after_0 : List UInt8 := dkwX6_after_0 ++ dktX6_after_1
theorem dksX6_after_0 : cX6_after.data.toList.drop 0 = dktX6_after_0 := by decide +kernel
theorem dksX6_after_1 : cX6_after.data.toList.drop 22 = dktX6_after_1 := dk_seg dksX6_after_0 22 rfl rfl
theorem dksX6_after_2 : cX6_after.data.toList.drop 45 = dktX6_after_2 := dk_seg dksX6_after_1 23 rfl rfl
theorem dksX6_after_3 : cX6_after.data.toList.drop 67 = dktX6_after_3 := dk_seg dksX6_after_2 22 rfl rfl
theorem dX6_after_0 : decode cX6_after 0 = .ok (.iload_n 1, 1) := dk_27 (dk_at dksX6_after_0 0 rfl rfl)
theorem dX6_after_1 : decode cX6_after 1 = .ok (.iconst 0, 1) := dk_3 (dk_at dksX6_after_0 1 rfl rfl)
theorem dX6_after_2 : decode cX6_after 2 = .ok (.bipush 7, 2) := dk_16 7 (dk_at dksX6_after_0 2 rfl rfl)
theorem dX6_after_4 : decode cX6_after 4 = .ok (.invokestatic 103, 3) := dk_184 0 103 (dk_at dksX6_after_0 4 rfl rfl)
theorem dX6_after_7 : decode cX6_after 7 = .ok (.ifCond .eq 18, 3) := dk_153 0 18 (dk_at dksX6_after_0 7 rfl rfl)
theorem dX6_after_10 : decode cX6_after 10 = .ok (.iload_n 2, 1) := dk_28 (dk_at dksX6_after_0 10 rfl rfl)
theorem dX6_after_11 : decode cX6_after 11 = .ok (.iconst 0, 1) := dk_3 (dk_at dksX6_after_0 11 rfl rfl)
theorem dX6_after_12 : decode cX6_after 12 = .ok (.bipush 7, 2) := dk_16 7 (dk_at dksX6_after_0 12 rfl rfl)
theorem dX6_after_14 : decode cX6_after 14 = .ok (.invokestatic 103, 3) := dk_184 0 103 (dk_at dksX6_after_0 14 rfl rfl)
theorem dX6_after_17 : decode cX6_after 17 = .ok (.ifCond .eq 8, 3) := dk_153 0 8 (dk_at dksX6_after_0 17 rfl rfl)
theorem dX6_after_20 : decode cX6_after 20 = .ok (.iload_n 1, 1) := dk_27 (dk_at dksX6_after_0 20 rfl rfl)
theorem dX6_after_21 : decode cX6_after 21 = .ok (.iload_n 2, 1) := dk_28 (dk_at dksX6_after_0 21 rfl rfl)
theorem dX6_after_22 : decode cX6_after 22 = .ok (.if_icmp .ne 6, 3) := dk_160 0 6 (dk_at dksX6_after_1 0 rfl rfl)
theorem dX6_after_25 : decode cX6_after 25 = .ok (.bipush (-2), 2) := dk_16 254 (dk_at dksX6_after_1 3 rfl rfl)
theorem dX6_after_27 : decode cX6_after 27 = .ok (.ireturn, 1) := dk_172 (dk_at dksX6_after_1 5 rfl rfl)
theorem dX6_after_28 : decode cX6_after 28 = .ok (.aload_n 0, 1) := dk_42 (dk_at dksX6_after_1 6 rfl rfl)
theorem dX6_after_29 : decode cX6_after 29 = .ok (.getfield 255, 3) := dk_180 0 255 (dk_at dksX6_after_1 7 rfl rfl)
theorem dX6_after_32 : decode cX6_after 32 = .ok (.bipush 10, 2) := dk_16 10 (dk_at dksX6_after_1 10 rfl rfl)
theorem dX6_after_34 : decode cX6_after 34 = .ok (.if_icmp .ne 6, 3) := dk_160 0 6 (dk_at dksX6_after_1 12 rfl rfl)
theorem dX6_after_37 : decode cX6_after 37 = .ok (.bipush (-4), 2) := dk_16 252 (dk_at dksX6_after_1 15 rfl rfl)
theorem dX6_after_39 : decode cX6_after 39 = .ok (.ireturn, 1) := dk_172 (dk_at dksX6_after_1 17 rfl rfl)
theorem dX6_after_40 : decode cX6_after 40 = .ok (.aload_n 0, 1) := dk_42 (dk_at dksX6_after_1 18 rfl rfl)
theorem dX6_after_41 : decode cX6_after 41 = .ok (.getfield 79, 3) := dk_180 0 79 (dk_at dksX6_after_1 19 rfl rfl)
theorem dX6_after_44 : decode cX6_after 44 = .ok (.aload_n 0, 1) := dk_42 (dk_at dksX6_after_1 22 rfl rfl)
theorem dX6_after_45 : decode cX6_after 45 = .ok (.getfield 255, 3) := dk_180 0 255 (dk_at dksX6_after_2 0 rfl rfl)
theorem dX6_after_48 : decode cX6_after 48 = .ok (.iload_n 1, 1) := dk_27 (dk_at dksX6_after_2 3 rfl rfl)
theorem dX6_after_49 : decode cX6_after 49 = .ok (.iastore, 1) := dk_79 (dk_at dksX6_after_2 4 rfl rfl)
theorem dX6_after_50 : decode cX6_after 50 = .ok (.aload_n 0, 1) := dk_42 (dk_at dksX6_after_2 5 rfl rfl)
theorem dX6_after_51 : decode cX6_after 51 = .ok (.getfield 82, 3) := dk_180 0 82 (dk_at dksX6_after_2 6 rfl rfl)
theorem dX6_after_54 : decode cX6_after 54 = .ok (.aload_n 0, 1) := dk_42 (dk_at dksX6_after_2 9 rfl rfl)
theorem dX6_after_55 : decode cX6_after 55 = .ok (.getfield 255, 3) := dk_180 0 255 (dk_at dksX6_after_2 10 rfl rfl)
theorem dX6_after_58 : decode cX6_after 58 = .ok (.iload_n 2, 1) := dk_28 (dk_at dksX6_after_2 13 rfl rfl)
theorem dX6_after_59 : decode cX6_after 59 = .ok (.iastore, 1) := dk_79 (dk_at dksX6_after_2 14 rfl rfl)
theorem dX6_after_60 : decode cX6_after 60 = .ok (.aload_n 0, 1) := dk_42 (dk_at dksX6_after_2 15 rfl rfl)
theorem dX6_after_61 : decode cX6_after 61 = .ok (.dup, 1) := dk_89 (dk_at dksX6_after_2 16 rfl rfl)
theorem dX6_after_62 : decode cX6_after 62 = .ok (.getfield 255, 3) := dk_180 0 255 (dk_at dksX6_after_2 17 rfl rfl)
theorem dX6_after_65 : decode cX6_after 65 = .ok (.iconst 1, 1) := dk_4 (dk_at dksX6_after_2 20 rfl rfl)
theorem dX6_after_66 : decode cX6_after 66 = .ok (.iadd, 1) := dk_96 (dk_at dksX6_after_2 21 rfl rfl)
theorem dX6_after_67 : decode cX6_after 67 = .ok (.putfield 255, 3) := dk_181 0 255 (dk_at dksX6_after_3 0 rfl rfl)
theorem dX6_after_70 : decode cX6_after 70 = .ok (.aload_n 0, 1) := dk_42 (dk_at dksX6_after_3 3 rfl rfl)
theorem dX6_after_71 : decode cX6_after 71 = .ok (.getfield 255, 3) := dk_180 0 255 (dk_at dksX6_after_3 4 rfl rfl)
theorem dX6_after_74 : decode cX6_after 74 = .ok (.ireturn, 1) := dk_172 (dk_at dksX6_after_3 7 rfl rfl)
abbrev cX6_forget : ByteArray := prog_11_method_65_code
def yX6_forget : MethodName := ⟨RX6, "forget", "(I)I"⟩
def dkwX6_forget_2 : List UInt8 := [160, 0, 7, 3, 167, 0, 7, 42, 180, 0, 255, 181, 0, 255, 28, 172]
abbrev dktX6_forget_2 : List UInt8 := dkwX6_forget_2 ++ []
def dkwX6_forget_1 : List UInt8 := [180, 0, 255, 61, 42, 27, 154, 0, 7, 3, 167, 0, 7, 42, 180, 0, 243, 181, 0, 243, 42, 27, 4]
abbrev dktX6_forget_1 : List UInt8 := dkwX6_forget_1 ++ dktX6_forget_2
def dkwX6_forget_0 : List UInt8 := [27, 3, 4, 184, 0, 103, 154, 0, 6, 16, 254, 172, 27, 154, 0, 10, 42, 180, 0, 243, 167, 0, 7, 42]
abbrev dktX6_forget_0 : List UInt8 := dkwX6_forget_0 ++ dktX6_forget_1
theorem dksX6_forget_0 : cX6_forget.data.toList.drop 0 = dktX6_forget_0 := by decide +kernel
theorem dksX6_forget_1 : cX6_forget.data.toList.drop 24 = dktX6_forget_1 := dk_seg dksX6_forget_0 24 rfl rfl
theorem dksX6_forget_2 : cX6_forget.data.toList.drop 47 = dktX6_forget_2 := dk_seg dksX6_forget_1 23 rfl rfl
theorem dX6_forget_0 : decode cX6_forget 0 = .ok (.iload_n 1, 1) := dk_27 (dk_at dksX6_forget_0 0 rfl rfl)
theorem dX6_forget_1 : decode cX6_forget 1 = .ok (.iconst 0, 1) := dk_3 (dk_at dksX6_forget_0 1 rfl rfl)
theorem dX6_forget_2 : decode cX6_forget 2 = .ok (.iconst 1, 1) := dk_4 (dk_at dksX6_forget_0 2 rfl rfl)
theorem dX6_forget_3 : decode cX6_forget 3 = .ok (.invokestatic 103, 3) := dk_184 0 103 (dk_at dksX6_forget_0 3 rfl rfl)
theorem dX6_forget_6 : decode cX6_forget 6 = .ok (.ifCond .ne 6, 3) := dk_154 0 6 (dk_at dksX6_forget_0 6 rfl rfl)
theorem dX6_forget_9 : decode cX6_forget 9 = .ok (.bipush (-2), 2) := dk_16 254 (dk_at dksX6_forget_0 9 rfl rfl)
theorem dX6_forget_11 : decode cX6_forget 11 = .ok (.ireturn, 1) := dk_172 (dk_at dksX6_forget_0 11 rfl rfl)
theorem dX6_forget_12 : decode cX6_forget 12 = .ok (.iload_n 1, 1) := dk_27 (dk_at dksX6_forget_0 12 rfl rfl)
theorem dX6_forget_13 : decode cX6_forget 13 = .ok (.ifCond .ne 10, 3) := dk_154 0 10 (dk_at dksX6_forget_0 13 rfl rfl)
theorem dX6_forget_16 : decode cX6_forget 16 = .ok (.aload_n 0, 1) := dk_42 (dk_at dksX6_forget_0 16 rfl rfl)
theorem dX6_forget_17 : decode cX6_forget 17 = .ok (.getfield 243, 3) := dk_180 0 243 (dk_at dksX6_forget_0 17 rfl rfl)
theorem dX6_forget_20 : decode cX6_forget 20 = .ok (.goto 7, 3) := dk_167 0 7 (dk_at dksX6_forget_0 20 rfl rfl)
theorem dX6_forget_23 : decode cX6_forget 23 = .ok (.aload_n 0, 1) := dk_42 (dk_at dksX6_forget_0 23 rfl rfl)
theorem dX6_forget_24 : decode cX6_forget 24 = .ok (.getfield 255, 3) := dk_180 0 255 (dk_at dksX6_forget_1 0 rfl rfl)
theorem dX6_forget_27 : decode cX6_forget 27 = .ok (.istore_n 2, 1) := dk_61 (dk_at dksX6_forget_1 3 rfl rfl)
theorem dX6_forget_28 : decode cX6_forget 28 = .ok (.aload_n 0, 1) := dk_42 (dk_at dksX6_forget_1 4 rfl rfl)
theorem dX6_forget_29 : decode cX6_forget 29 = .ok (.iload_n 1, 1) := dk_27 (dk_at dksX6_forget_1 5 rfl rfl)
theorem dX6_forget_30 : decode cX6_forget 30 = .ok (.ifCond .ne 7, 3) := dk_154 0 7 (dk_at dksX6_forget_1 6 rfl rfl)
theorem dX6_forget_33 : decode cX6_forget 33 = .ok (.iconst 0, 1) := dk_3 (dk_at dksX6_forget_1 9 rfl rfl)
theorem dX6_forget_34 : decode cX6_forget 34 = .ok (.goto 7, 3) := dk_167 0 7 (dk_at dksX6_forget_1 10 rfl rfl)
theorem dX6_forget_37 : decode cX6_forget 37 = .ok (.aload_n 0, 1) := dk_42 (dk_at dksX6_forget_1 13 rfl rfl)
theorem dX6_forget_38 : decode cX6_forget 38 = .ok (.getfield 243, 3) := dk_180 0 243 (dk_at dksX6_forget_1 14 rfl rfl)
theorem dX6_forget_41 : decode cX6_forget 41 = .ok (.putfield 243, 3) := dk_181 0 243 (dk_at dksX6_forget_1 17 rfl rfl)
theorem dX6_forget_44 : decode cX6_forget 44 = .ok (.aload_n 0, 1) := dk_42 (dk_at dksX6_forget_1 20 rfl rfl)
theorem dX6_forget_45 : decode cX6_forget 45 = .ok (.iload_n 1, 1) := dk_27 (dk_at dksX6_forget_1 21 rfl rfl)
theorem dX6_forget_46 : decode cX6_forget 46 = .ok (.iconst 1, 1) := dk_4 (dk_at dksX6_forget_1 22 rfl rfl)
theorem dX6_forget_47 : decode cX6_forget 47 = .ok (.if_icmp .ne 7, 3) := dk_160 0 7 (dk_at dksX6_forget_2 0 rfl rfl)
theorem dX6_forget_50 : decode cX6_forget 50 = .ok (.iconst 0, 1) := dk_3 (dk_at dksX6_forget_2 3 rfl rfl)
theorem dX6_forget_51 : decode cX6_forget 51 = .ok (.goto 7, 3) := dk_167 0 7 (dk_at dksX6_forget_2 4 rfl rfl)
theorem dX6_forget_54 : decode cX6_forget 54 = .ok (.aload_n 0, 1) := dk_42 (dk_at dksX6_forget_2 7 rfl rfl)
theorem dX6_forget_55 : decode cX6_forget 55 = .ok (.getfield 255, 3) := dk_180 0 255 (dk_at dksX6_forget_2 8 rfl rfl)
theorem dX6_forget_58 : decode cX6_forget 58 = .ok (.putfield 255, 3) := dk_181 0 255 (dk_at dksX6_forget_2 11 rfl rfl)
theorem dX6_forget_61 : decode cX6_forget 61 = .ok (.iload_n 2, 1) := dk_28 (dk_at dksX6_forget_2 14 rfl rfl)
theorem dX6_forget_62 : decode cX6_forget 62 = .ok (.ireturn, 1) := dk_172 (dk_at dksX6_forget_2 15 rfl rfl)
abbrev cX6_spared : ByteArray := prog_11_method_68_code
def yX6_spared : MethodName := ⟨RX6, "spared", "(I)I"⟩
def dkwX6_spared_0 : List UInt8 := [27, 3, 42, 182, 1, 2, 184, 0, 103, 153, 0, 11, 42, 27, 182, 1, 5, 167, 0, 5, 16, 254, 172]
abbrev dktX6_spared_0 : List UInt8 := dkwX6_spared_0 ++ []
theorem dksX6_spared_0 : cX6_spared.data.toList.drop 0 = dktX6_spared_0 := by decide +kernel
theorem dX6_spared_0 : decode cX6_spared 0 = .ok (.iload_n 1, 1) := dk_27 (dk_at dksX6_spared_0 0 rfl rfl)
theorem dX6_spared_1 : decode cX6_spared 1 = .ok (.iconst 0, 1) := dk_3 (dk_at dksX6_spared_0 1 rfl rfl)
theorem dX6_spared_2 : decode cX6_spared 2 = .ok (.aload_n 0, 1) := dk_42 (dk_at dksX6_spared_0 2 rfl rfl)
theorem dX6_spared_3 : decode cX6_spared 3 = .ok (.invokevirtual 258, 3) := dk_182 1 2 (dk_at dksX6_spared_0 3 rfl rfl)
theorem dX6_spared_6 : decode cX6_spared 6 = .ok (.invokestatic 103, 3) := dk_184 0 103 (dk_at dksX6_spared_0 6 rfl rfl)
theorem dX6_spared_9 : decode cX6_spared 9 = .ok (.ifCond .eq 11, 3) := dk_153 0 11 (dk_at dksX6_spared_0 9 rfl rfl)
theorem dX6_spared_12 : decode cX6_spared 12 = .ok (.aload_n 0, 1) := dk_42 (dk_at dksX6_spared_0 12 rfl rfl)
theorem dX6_spared_13 : decode cX6_spared 13 = .ok (.iload_n 1, 1) := dk_27 (dk_at dksX6_spared_0 13 rfl rfl)
theorem dX6_spared_14 : decode cX6_spared 14 = .ok (.invokevirtual 261, 3) := dk_182 1 5 (dk_at dksX6_spared_0 14 rfl rfl)
theorem dX6_spared_17 : decode cX6_spared 17 = .ok (.goto 5, 3) := dk_167 0 5 (dk_at dksX6_spared_0 17 rfl rfl)
theorem dX6_spared_20 : decode cX6_spared 20 = .ok (.bipush (-2), 2) := dk_16 254 (dk_at dksX6_spared_0 20 rfl rfl)
theorem dX6_spared_22 : decode cX6_spared 22 = .ok (.ireturn, 1) := dk_172 (dk_at dksX6_spared_0 22 rfl rfl)
abbrev cX6_allDeeds : ByteArray := prog_11_method_67_code
def yX6_allDeeds : MethodName := ⟨RX6, "allDeeds", "()I"⟩
def dkwX6_allDeeds_0 : List UInt8 := [42, 182, 0, 139, 4, 42, 180, 0, 107, 120, 4, 100, 172]
abbrev dktX6_allDeeds_0 : List UInt8 := dkwX6_allDeeds_0 ++ []
theorem dksX6_allDeeds_0 : cX6_allDeeds.data.toList.drop 0 = dktX6_allDeeds_0 := by decide +kernel
theorem dX6_allDeeds_0 : decode cX6_allDeeds 0 = .ok (.aload_n 0, 1) := dk_42 (dk_at dksX6_allDeeds_0 0 rfl rfl)
theorem dX6_allDeeds_1 : decode cX6_allDeeds 1 = .ok (.invokevirtual 139, 3) := dk_182 0 139 (dk_at dksX6_allDeeds_0 1 rfl rfl)
theorem dX6_allDeeds_4 : decode cX6_allDeeds 4 = .ok (.iconst 1, 1) := dk_4 (dk_at dksX6_allDeeds_0 4 rfl rfl)
theorem dX6_allDeeds_5 : decode cX6_allDeeds 5 = .ok (.aload_n 0, 1) := dk_42 (dk_at dksX6_allDeeds_0 5 rfl rfl)
theorem dX6_allDeeds_6 : decode cX6_allDeeds 6 = .ok (.getfield 107, 3) := dk_180 0 107 (dk_at dksX6_allDeeds_0 6 rfl rfl)
theorem dX6_allDeeds_9 : decode cX6_allDeeds 9 = .ok (.ishl, 1) := dk_120 (dk_at dksX6_allDeeds_0 9 rfl rfl)
theorem dX6_allDeeds_10 : decode cX6_allDeeds 10 = .ok (.iconst 1, 1) := dk_4 (dk_at dksX6_allDeeds_0 10 rfl rfl)
theorem dX6_allDeeds_11 : decode cX6_allDeeds 11 = .ok (.isub, 1) := dk_100 (dk_at dksX6_allDeeds_0 11 rfl rfl)
theorem dX6_allDeeds_12 : decode cX6_allDeeds 12 = .ok (.ireturn, 1) := dk_172 (dk_at dksX6_allDeeds_0 12 rfl rfl)
abbrev cX6_sparedOf : ByteArray := prog_11_method_66_code
def yX6_sparedOf : MethodName := ⟨RX6, "sparedOf", "(I)I"⟩
def dkwX6_sparedOf_4 : List UInt8 := [130, 126, 182, 0, 195, 172]
abbrev dktX6_sparedOf_4 : List UInt8 := dkwX6_sparedOf_4 ++ []
def dkwX6_sparedOf_3 : List UInt8 := [46, 120, 167, 0, 4, 3, 128, 61, 132, 4, 1, 167, 255, 186, 132, 3, 1, 167, 255, 171, 42, 28, 27, 2]
abbrev dktX6_sparedOf_3 : List UInt8 := dkwX6_sparedOf_3 ++ dktX6_sparedOf_4
def dkwX6_sparedOf_2 : List UInt8 := [162, 0, 29, 28, 42, 180, 0, 79, 21, 4, 46, 184, 0, 119, 153, 0, 15, 4, 42, 180, 0, 82, 21, 4]
abbrev dktX6_sparedOf_2 : List UInt8 := dkwX6_sparedOf_2 ++ dktX6_sparedOf_3
def dkwX6_sparedOf_1 : List UInt8 := [180, 0, 79, 21, 4, 46, 42, 180, 0, 107, 162, 0, 43, 42, 180, 0, 82, 21, 4, 46, 42, 180, 0, 107]
abbrev dktX6_sparedOf_1 : List UInt8 := dkwX6_sparedOf_1 ++ dktX6_sparedOf_2
def dkwX6_sparedOf_0 : List UInt8 := [27, 61, 3, 62, 29, 16, 8, 162, 0, 85, 3, 54, 4, 21, 4, 42, 180, 0, 255, 162, 0, 67, 28, 42]
abbrev dktX6_sparedOf_0 : List UInt8 := dkwX6_sparedOf_0 ++ dktX6_sparedOf_1
theorem dksX6_sparedOf_0 : cX6_sparedOf.data.toList.drop 0 = dktX6_sparedOf_0 := by decide +kernel
theorem dksX6_sparedOf_1 : cX6_sparedOf.data.toList.drop 24 = dktX6_sparedOf_1 := dk_seg dksX6_sparedOf_0 24 rfl rfl
theorem dksX6_sparedOf_2 : cX6_sparedOf.data.toList.drop 48 = dktX6_sparedOf_2 := dk_seg dksX6_sparedOf_1 24 rfl rfl
theorem dksX6_sparedOf_3 : cX6_sparedOf.data.toList.drop 72 = dktX6_sparedOf_3 := dk_seg dksX6_sparedOf_2 24 rfl rfl
theorem dksX6_sparedOf_4 : cX6_sparedOf.data.toList.drop 96 = dktX6_sparedOf_4 := dk_seg dksX6_sparedOf_3 24 rfl rfl
theorem dX6_sparedOf_0 : decode cX6_sparedOf 0 = .ok (.iload_n 1, 1) := dk_27 (dk_at dksX6_sparedOf_0 0 rfl rfl)
theorem dX6_sparedOf_1 : decode cX6_sparedOf 1 = .ok (.istore_n 2, 1) := dk_61 (dk_at dksX6_sparedOf_0 1 rfl rfl)
theorem dX6_sparedOf_2 : decode cX6_sparedOf 2 = .ok (.iconst 0, 1) := dk_3 (dk_at dksX6_sparedOf_0 2 rfl rfl)
theorem dX6_sparedOf_3 : decode cX6_sparedOf 3 = .ok (.istore_n 3, 1) := dk_62 (dk_at dksX6_sparedOf_0 3 rfl rfl)
theorem dX6_sparedOf_4 : decode cX6_sparedOf 4 = .ok (.iload_n 3, 1) := dk_29 (dk_at dksX6_sparedOf_0 4 rfl rfl)
theorem dX6_sparedOf_5 : decode cX6_sparedOf 5 = .ok (.bipush 8, 2) := dk_16 8 (dk_at dksX6_sparedOf_0 5 rfl rfl)
theorem dX6_sparedOf_7 : decode cX6_sparedOf 7 = .ok (.if_icmp .ge 85, 3) := dk_162 0 85 (dk_at dksX6_sparedOf_0 7 rfl rfl)
theorem dX6_sparedOf_10 : decode cX6_sparedOf 10 = .ok (.iconst 0, 1) := dk_3 (dk_at dksX6_sparedOf_0 10 rfl rfl)
theorem dX6_sparedOf_11 : decode cX6_sparedOf 11 = .ok (.istore 4, 2) := dk_54 4 (dk_at dksX6_sparedOf_0 11 rfl rfl)
theorem dX6_sparedOf_13 : decode cX6_sparedOf 13 = .ok (.iload 4, 2) := dk_21 4 (dk_at dksX6_sparedOf_0 13 rfl rfl)
theorem dX6_sparedOf_15 : decode cX6_sparedOf 15 = .ok (.aload_n 0, 1) := dk_42 (dk_at dksX6_sparedOf_0 15 rfl rfl)
theorem dX6_sparedOf_16 : decode cX6_sparedOf 16 = .ok (.getfield 255, 3) := dk_180 0 255 (dk_at dksX6_sparedOf_0 16 rfl rfl)
theorem dX6_sparedOf_19 : decode cX6_sparedOf 19 = .ok (.if_icmp .ge 67, 3) := dk_162 0 67 (dk_at dksX6_sparedOf_0 19 rfl rfl)
theorem dX6_sparedOf_22 : decode cX6_sparedOf 22 = .ok (.iload_n 2, 1) := dk_28 (dk_at dksX6_sparedOf_0 22 rfl rfl)
theorem dX6_sparedOf_23 : decode cX6_sparedOf 23 = .ok (.aload_n 0, 1) := dk_42 (dk_at dksX6_sparedOf_0 23 rfl rfl)
theorem dX6_sparedOf_24 : decode cX6_sparedOf 24 = .ok (.getfield 79, 3) := dk_180 0 79 (dk_at dksX6_sparedOf_1 0 rfl rfl)
theorem dX6_sparedOf_27 : decode cX6_sparedOf 27 = .ok (.iload 4, 2) := dk_21 4 (dk_at dksX6_sparedOf_1 3 rfl rfl)
theorem dX6_sparedOf_29 : decode cX6_sparedOf 29 = .ok (.iaload, 1) := dk_46 (dk_at dksX6_sparedOf_1 5 rfl rfl)
theorem dX6_sparedOf_30 : decode cX6_sparedOf 30 = .ok (.aload_n 0, 1) := dk_42 (dk_at dksX6_sparedOf_1 6 rfl rfl)
theorem dX6_sparedOf_31 : decode cX6_sparedOf 31 = .ok (.getfield 107, 3) := dk_180 0 107 (dk_at dksX6_sparedOf_1 7 rfl rfl)
theorem dX6_sparedOf_34 : decode cX6_sparedOf 34 = .ok (.if_icmp .ge 43, 3) := dk_162 0 43 (dk_at dksX6_sparedOf_1 10 rfl rfl)
theorem dX6_sparedOf_37 : decode cX6_sparedOf 37 = .ok (.aload_n 0, 1) := dk_42 (dk_at dksX6_sparedOf_1 13 rfl rfl)
theorem dX6_sparedOf_38 : decode cX6_sparedOf 38 = .ok (.getfield 82, 3) := dk_180 0 82 (dk_at dksX6_sparedOf_1 14 rfl rfl)
theorem dX6_sparedOf_41 : decode cX6_sparedOf 41 = .ok (.iload 4, 2) := dk_21 4 (dk_at dksX6_sparedOf_1 17 rfl rfl)
theorem dX6_sparedOf_43 : decode cX6_sparedOf 43 = .ok (.iaload, 1) := dk_46 (dk_at dksX6_sparedOf_1 19 rfl rfl)
theorem dX6_sparedOf_44 : decode cX6_sparedOf 44 = .ok (.aload_n 0, 1) := dk_42 (dk_at dksX6_sparedOf_1 20 rfl rfl)
theorem dX6_sparedOf_45 : decode cX6_sparedOf 45 = .ok (.getfield 107, 3) := dk_180 0 107 (dk_at dksX6_sparedOf_1 21 rfl rfl)
theorem dX6_sparedOf_48 : decode cX6_sparedOf 48 = .ok (.if_icmp .ge 29, 3) := dk_162 0 29 (dk_at dksX6_sparedOf_2 0 rfl rfl)
theorem dX6_sparedOf_51 : decode cX6_sparedOf 51 = .ok (.iload_n 2, 1) := dk_28 (dk_at dksX6_sparedOf_2 3 rfl rfl)
theorem dX6_sparedOf_52 : decode cX6_sparedOf 52 = .ok (.aload_n 0, 1) := dk_42 (dk_at dksX6_sparedOf_2 4 rfl rfl)
theorem dX6_sparedOf_53 : decode cX6_sparedOf 53 = .ok (.getfield 79, 3) := dk_180 0 79 (dk_at dksX6_sparedOf_2 5 rfl rfl)
theorem dX6_sparedOf_56 : decode cX6_sparedOf 56 = .ok (.iload 4, 2) := dk_21 4 (dk_at dksX6_sparedOf_2 8 rfl rfl)
theorem dX6_sparedOf_58 : decode cX6_sparedOf 58 = .ok (.iaload, 1) := dk_46 (dk_at dksX6_sparedOf_2 10 rfl rfl)
theorem dX6_sparedOf_59 : decode cX6_sparedOf 59 = .ok (.invokestatic 119, 3) := dk_184 0 119 (dk_at dksX6_sparedOf_2 11 rfl rfl)
theorem dX6_sparedOf_62 : decode cX6_sparedOf 62 = .ok (.ifCond .eq 15, 3) := dk_153 0 15 (dk_at dksX6_sparedOf_2 14 rfl rfl)
theorem dX6_sparedOf_65 : decode cX6_sparedOf 65 = .ok (.iconst 1, 1) := dk_4 (dk_at dksX6_sparedOf_2 17 rfl rfl)
theorem dX6_sparedOf_66 : decode cX6_sparedOf 66 = .ok (.aload_n 0, 1) := dk_42 (dk_at dksX6_sparedOf_2 18 rfl rfl)
theorem dX6_sparedOf_67 : decode cX6_sparedOf 67 = .ok (.getfield 82, 3) := dk_180 0 82 (dk_at dksX6_sparedOf_2 19 rfl rfl)
theorem dX6_sparedOf_70 : decode cX6_sparedOf 70 = .ok (.iload 4, 2) := dk_21 4 (dk_at dksX6_sparedOf_2 22 rfl rfl)
theorem dX6_sparedOf_72 : decode cX6_sparedOf 72 = .ok (.iaload, 1) := dk_46 (dk_at dksX6_sparedOf_3 0 rfl rfl)
theorem dX6_sparedOf_73 : decode cX6_sparedOf 73 = .ok (.ishl, 1) := dk_120 (dk_at dksX6_sparedOf_3 1 rfl rfl)
theorem dX6_sparedOf_74 : decode cX6_sparedOf 74 = .ok (.goto 4, 3) := dk_167 0 4 (dk_at dksX6_sparedOf_3 2 rfl rfl)
theorem dX6_sparedOf_77 : decode cX6_sparedOf 77 = .ok (.iconst 0, 1) := dk_3 (dk_at dksX6_sparedOf_3 5 rfl rfl)
theorem dX6_sparedOf_78 : decode cX6_sparedOf 78 = .ok (.ior, 1) := dk_128 (dk_at dksX6_sparedOf_3 6 rfl rfl)
theorem dX6_sparedOf_79 : decode cX6_sparedOf 79 = .ok (.istore_n 2, 1) := dk_61 (dk_at dksX6_sparedOf_3 7 rfl rfl)
theorem dX6_sparedOf_80 : decode cX6_sparedOf 80 = .ok (.iinc 4 1, 3) := dk_132 4 1 (dk_at dksX6_sparedOf_3 8 rfl rfl)
theorem dX6_sparedOf_83 : decode cX6_sparedOf 83 = .ok (.goto (-70), 3) := dk_167 255 186 (dk_at dksX6_sparedOf_3 11 rfl rfl)
theorem dX6_sparedOf_86 : decode cX6_sparedOf 86 = .ok (.iinc 3 1, 3) := dk_132 3 1 (dk_at dksX6_sparedOf_3 14 rfl rfl)
theorem dX6_sparedOf_89 : decode cX6_sparedOf 89 = .ok (.goto (-85), 3) := dk_167 255 171 (dk_at dksX6_sparedOf_3 17 rfl rfl)
theorem dX6_sparedOf_92 : decode cX6_sparedOf 92 = .ok (.aload_n 0, 1) := dk_42 (dk_at dksX6_sparedOf_3 20 rfl rfl)
theorem dX6_sparedOf_93 : decode cX6_sparedOf 93 = .ok (.iload_n 2, 1) := dk_28 (dk_at dksX6_sparedOf_3 21 rfl rfl)
theorem dX6_sparedOf_94 : decode cX6_sparedOf 94 = .ok (.iload_n 1, 1) := dk_27 (dk_at dksX6_sparedOf_3 22 rfl rfl)
theorem dX6_sparedOf_95 : decode cX6_sparedOf 95 = .ok (.iconst (-1), 1) := dk_2 (dk_at dksX6_sparedOf_3 23 rfl rfl)
theorem dX6_sparedOf_96 : decode cX6_sparedOf 96 = .ok (.ixor, 1) := dk_130 (dk_at dksX6_sparedOf_4 0 rfl rfl)
theorem dX6_sparedOf_97 : decode cX6_sparedOf 97 = .ok (.iand, 1) := dk_126 (dk_at dksX6_sparedOf_4 1 rfl rfl)
theorem dX6_sparedOf_98 : decode cX6_sparedOf 98 = .ok (.invokevirtual 195, 3) := dk_182 0 195 (dk_at dksX6_sparedOf_4 2 rfl rfl)
theorem dX6_sparedOf_101 : decode cX6_sparedOf 101 = .ok (.ireturn, 1) := dk_172 (dk_at dksX6_sparedOf_4 5 rfl rfl)
abbrev cX6_best : ByteArray := prog_11_method_70_code
def yX6_best : MethodName := ⟨RX6, "best", "()I"⟩
theorem dX6_best_0 : decode cX6_best 0 = .ok (.aload_n 0, 1) := by decide +kernel
theorem dX6_best_1 : decode cX6_best 1 = .ok (.invokevirtual 264, 3) := by decide +kernel
theorem dX6_best_4 : decode cX6_best 4 = .ok (.ireturn, 1) := by decide +kernel
abbrev cX6_bestNow : ByteArray := prog_11_method_69_code
def yX6_bestNow : MethodName := ⟨RX6, "bestNow", "()I"⟩
def dkwX6_bestNow_2 : List UInt8 := [28, 164, 0, 8, 21, 4, 167, 0, 4, 28, 61, 132, 3, 1, 167, 255, 204, 27, 172]
abbrev dktX6_bestNow_2 : List UInt8 := dkwX6_bestNow_2 ++ []
def dkwX6_bestNow_1 : List UInt8 := [42, 4, 29, 120, 182, 1, 5, 96, 54, 4, 21, 4, 28, 164, 0, 7, 29, 167, 0, 4, 27, 60, 21, 4]
abbrev dktX6_bestNow_1 : List UInt8 := dkwX6_bestNow_1 ++ dktX6_bestNow_2
def dkwX6_bestNow_0 : List UInt8 := [42, 182, 0, 139, 2, 60, 3, 61, 3, 62, 29, 42, 180, 0, 107, 162, 0, 50, 42, 180, 0, 25, 29, 46]
abbrev dktX6_bestNow_0 : List UInt8 := dkwX6_bestNow_0 ++ dktX6_bestNow_1
theorem dksX6_bestNow_0 : cX6_bestNow.data.toList.drop 0 = dktX6_bestNow_0 := by decide +kernel
theorem dksX6_bestNow_1 : cX6_bestNow.data.toList.drop 24 = dktX6_bestNow_1 := dk_seg dksX6_bestNow_0 24 rfl rfl
theorem dksX6_bestNow_2 : cX6_bestNow.data.toList.drop 48 = dktX6_bestNow_2 := dk_seg dksX6_bestNow_1 24 rfl rfl
theorem dX6_bestNow_0 : decode cX6_bestNow 0 = .ok (.aload_n 0, 1) := dk_42 (dk_at dksX6_bestNow_0 0 rfl rfl)
theorem dX6_bestNow_1 : decode cX6_bestNow 1 = .ok (.invokevirtual 139, 3) := dk_182 0 139 (dk_at dksX6_bestNow_0 1 rfl rfl)
theorem dX6_bestNow_4 : decode cX6_bestNow 4 = .ok (.iconst (-1), 1) := dk_2 (dk_at dksX6_bestNow_0 4 rfl rfl)
theorem dX6_bestNow_5 : decode cX6_bestNow 5 = .ok (.istore_n 1, 1) := dk_60 (dk_at dksX6_bestNow_0 5 rfl rfl)
theorem dX6_bestNow_6 : decode cX6_bestNow 6 = .ok (.iconst 0, 1) := dk_3 (dk_at dksX6_bestNow_0 6 rfl rfl)
theorem dX6_bestNow_7 : decode cX6_bestNow 7 = .ok (.istore_n 2, 1) := dk_61 (dk_at dksX6_bestNow_0 7 rfl rfl)
theorem dX6_bestNow_8 : decode cX6_bestNow 8 = .ok (.iconst 0, 1) := dk_3 (dk_at dksX6_bestNow_0 8 rfl rfl)
theorem dX6_bestNow_9 : decode cX6_bestNow 9 = .ok (.istore_n 3, 1) := dk_62 (dk_at dksX6_bestNow_0 9 rfl rfl)
theorem dX6_bestNow_10 : decode cX6_bestNow 10 = .ok (.iload_n 3, 1) := dk_29 (dk_at dksX6_bestNow_0 10 rfl rfl)
theorem dX6_bestNow_11 : decode cX6_bestNow 11 = .ok (.aload_n 0, 1) := dk_42 (dk_at dksX6_bestNow_0 11 rfl rfl)
theorem dX6_bestNow_12 : decode cX6_bestNow 12 = .ok (.getfield 107, 3) := dk_180 0 107 (dk_at dksX6_bestNow_0 12 rfl rfl)
theorem dX6_bestNow_15 : decode cX6_bestNow 15 = .ok (.if_icmp .ge 50, 3) := dk_162 0 50 (dk_at dksX6_bestNow_0 15 rfl rfl)
theorem dX6_bestNow_18 : decode cX6_bestNow 18 = .ok (.aload_n 0, 1) := dk_42 (dk_at dksX6_bestNow_0 18 rfl rfl)
theorem dX6_bestNow_19 : decode cX6_bestNow 19 = .ok (.getfield 25, 3) := dk_180 0 25 (dk_at dksX6_bestNow_0 19 rfl rfl)
theorem dX6_bestNow_22 : decode cX6_bestNow 22 = .ok (.iload_n 3, 1) := dk_29 (dk_at dksX6_bestNow_0 22 rfl rfl)
theorem dX6_bestNow_23 : decode cX6_bestNow 23 = .ok (.iaload, 1) := dk_46 (dk_at dksX6_bestNow_0 23 rfl rfl)
theorem dX6_bestNow_24 : decode cX6_bestNow 24 = .ok (.aload_n 0, 1) := dk_42 (dk_at dksX6_bestNow_1 0 rfl rfl)
theorem dX6_bestNow_25 : decode cX6_bestNow 25 = .ok (.iconst 1, 1) := dk_4 (dk_at dksX6_bestNow_1 1 rfl rfl)
theorem dX6_bestNow_26 : decode cX6_bestNow 26 = .ok (.iload_n 3, 1) := dk_29 (dk_at dksX6_bestNow_1 2 rfl rfl)
theorem dX6_bestNow_27 : decode cX6_bestNow 27 = .ok (.ishl, 1) := dk_120 (dk_at dksX6_bestNow_1 3 rfl rfl)
theorem dX6_bestNow_28 : decode cX6_bestNow 28 = .ok (.invokevirtual 261, 3) := dk_182 1 5 (dk_at dksX6_bestNow_1 4 rfl rfl)
theorem dX6_bestNow_31 : decode cX6_bestNow 31 = .ok (.iadd, 1) := dk_96 (dk_at dksX6_bestNow_1 7 rfl rfl)
theorem dX6_bestNow_32 : decode cX6_bestNow 32 = .ok (.istore 4, 2) := dk_54 4 (dk_at dksX6_bestNow_1 8 rfl rfl)
theorem dX6_bestNow_34 : decode cX6_bestNow 34 = .ok (.iload 4, 2) := dk_21 4 (dk_at dksX6_bestNow_1 10 rfl rfl)
theorem dX6_bestNow_36 : decode cX6_bestNow 36 = .ok (.iload_n 2, 1) := dk_28 (dk_at dksX6_bestNow_1 12 rfl rfl)
theorem dX6_bestNow_37 : decode cX6_bestNow 37 = .ok (.if_icmp .le 7, 3) := dk_164 0 7 (dk_at dksX6_bestNow_1 13 rfl rfl)
theorem dX6_bestNow_40 : decode cX6_bestNow 40 = .ok (.iload_n 3, 1) := dk_29 (dk_at dksX6_bestNow_1 16 rfl rfl)
theorem dX6_bestNow_41 : decode cX6_bestNow 41 = .ok (.goto 4, 3) := dk_167 0 4 (dk_at dksX6_bestNow_1 17 rfl rfl)
theorem dX6_bestNow_44 : decode cX6_bestNow 44 = .ok (.iload_n 1, 1) := dk_27 (dk_at dksX6_bestNow_1 20 rfl rfl)
theorem dX6_bestNow_45 : decode cX6_bestNow 45 = .ok (.istore_n 1, 1) := dk_60 (dk_at dksX6_bestNow_1 21 rfl rfl)
theorem dX6_bestNow_46 : decode cX6_bestNow 46 = .ok (.iload 4, 2) := dk_21 4 (dk_at dksX6_bestNow_1 22 rfl rfl)
theorem dX6_bestNow_48 : decode cX6_bestNow 48 = .ok (.iload_n 2, 1) := dk_28 (dk_at dksX6_bestNow_2 0 rfl rfl)
theorem dX6_bestNow_49 : decode cX6_bestNow 49 = .ok (.if_icmp .le 8, 3) := dk_164 0 8 (dk_at dksX6_bestNow_2 1 rfl rfl)
theorem dX6_bestNow_52 : decode cX6_bestNow 52 = .ok (.iload 4, 2) := dk_21 4 (dk_at dksX6_bestNow_2 4 rfl rfl)
theorem dX6_bestNow_54 : decode cX6_bestNow 54 = .ok (.goto 4, 3) := dk_167 0 4 (dk_at dksX6_bestNow_2 6 rfl rfl)
theorem dX6_bestNow_57 : decode cX6_bestNow 57 = .ok (.iload_n 2, 1) := dk_28 (dk_at dksX6_bestNow_2 9 rfl rfl)
theorem dX6_bestNow_58 : decode cX6_bestNow 58 = .ok (.istore_n 2, 1) := dk_61 (dk_at dksX6_bestNow_2 10 rfl rfl)
theorem dX6_bestNow_59 : decode cX6_bestNow 59 = .ok (.iinc 3 1, 3) := dk_132 3 1 (dk_at dksX6_bestNow_2 11 rfl rfl)
theorem dX6_bestNow_62 : decode cX6_bestNow 62 = .ok (.goto (-52), 3) := dk_167 255 204 (dk_at dksX6_bestNow_2 14 rfl rfl)
theorem dX6_bestNow_65 : decode cX6_bestNow 65 = .ok (.iload_n 1, 1) := dk_27 (dk_at dksX6_bestNow_2 17 rfl rfl)
theorem dX6_bestNow_66 : decode cX6_bestNow 66 = .ok (.ireturn, 1) := dk_172 (dk_at dksX6_bestNow_2 18 rfl rfl)
abbrev cX6_regrets : ByteArray := prog_11_method_72_code
def yX6_regrets : MethodName := ⟨RX6, "regrets", "(II)J"⟩
def dkwX6_regrets_1 : List UInt8 := [182, 1, 15, 167, 0, 8, 16, 254, 184, 0, 229, 173]
abbrev dktX6_regrets_1 : List UInt8 := dkwX6_regrets_1 ++ []
def dkwX6_regrets_0 : List UInt8 := [27, 3, 16, 8, 184, 0, 103, 153, 0, 21, 28, 3, 4, 184, 0, 103, 153, 0, 12, 42, 27, 28]
abbrev dktX6_regrets_0 : List UInt8 := dkwX6_regrets_0 ++ dktX6_regrets_1
theorem dksX6_regrets_0 : cX6_regrets.data.toList.drop 0 = dktX6_regrets_0 := by decide +kernel
theorem dksX6_regrets_1 : cX6_regrets.data.toList.drop 22 = dktX6_regrets_1 := dk_seg dksX6_regrets_0 22 rfl rfl
theorem dX6_regrets_0 : decode cX6_regrets 0 = .ok (.iload_n 1, 1) := dk_27 (dk_at dksX6_regrets_0 0 rfl rfl)
theorem dX6_regrets_1 : decode cX6_regrets 1 = .ok (.iconst 0, 1) := dk_3 (dk_at dksX6_regrets_0 1 rfl rfl)
theorem dX6_regrets_2 : decode cX6_regrets 2 = .ok (.bipush 8, 2) := dk_16 8 (dk_at dksX6_regrets_0 2 rfl rfl)
theorem dX6_regrets_4 : decode cX6_regrets 4 = .ok (.invokestatic 103, 3) := dk_184 0 103 (dk_at dksX6_regrets_0 4 rfl rfl)
theorem dX6_regrets_7 : decode cX6_regrets 7 = .ok (.ifCond .eq 21, 3) := dk_153 0 21 (dk_at dksX6_regrets_0 7 rfl rfl)
theorem dX6_regrets_10 : decode cX6_regrets 10 = .ok (.iload_n 2, 1) := dk_28 (dk_at dksX6_regrets_0 10 rfl rfl)
theorem dX6_regrets_11 : decode cX6_regrets 11 = .ok (.iconst 0, 1) := dk_3 (dk_at dksX6_regrets_0 11 rfl rfl)
theorem dX6_regrets_12 : decode cX6_regrets 12 = .ok (.iconst 1, 1) := dk_4 (dk_at dksX6_regrets_0 12 rfl rfl)
theorem dX6_regrets_13 : decode cX6_regrets 13 = .ok (.invokestatic 103, 3) := dk_184 0 103 (dk_at dksX6_regrets_0 13 rfl rfl)
theorem dX6_regrets_16 : decode cX6_regrets 16 = .ok (.ifCond .eq 12, 3) := dk_153 0 12 (dk_at dksX6_regrets_0 16 rfl rfl)
theorem dX6_regrets_19 : decode cX6_regrets 19 = .ok (.aload_n 0, 1) := dk_42 (dk_at dksX6_regrets_0 19 rfl rfl)
theorem dX6_regrets_20 : decode cX6_regrets 20 = .ok (.iload_n 1, 1) := dk_27 (dk_at dksX6_regrets_0 20 rfl rfl)
theorem dX6_regrets_21 : decode cX6_regrets 21 = .ok (.iload_n 2, 1) := dk_28 (dk_at dksX6_regrets_0 21 rfl rfl)
theorem dX6_regrets_22 : decode cX6_regrets 22 = .ok (.invokevirtual 271, 3) := dk_182 1 15 (dk_at dksX6_regrets_1 0 rfl rfl)
theorem dX6_regrets_25 : decode cX6_regrets 25 = .ok (.goto 8, 3) := dk_167 0 8 (dk_at dksX6_regrets_1 3 rfl rfl)
theorem dX6_regrets_28 : decode cX6_regrets 28 = .ok (.bipush (-2), 2) := dk_16 254 (dk_at dksX6_regrets_1 6 rfl rfl)
theorem dX6_regrets_30 : decode cX6_regrets 30 = .ok (.invokestatic 229, 3) := dk_184 0 229 (dk_at dksX6_regrets_1 8 rfl rfl)
theorem dX6_regrets_33 : decode cX6_regrets 33 = .ok (.lreturn, 1) := dk_173 (dk_at dksX6_regrets_1 11 rfl rfl)
abbrev cX6_regretsOf : ByteArray := prog_11_method_71_code
def yX6_regretsOf : MethodName := ⟨RX6, "regretsOf", "(II)J"⟩
def dkwX6_regretsOf_3 : List UInt8 := [28, 184, 0, 235, 173]
abbrev dktX6_regretsOf_3 : List UInt8 := dkwX6_regretsOf_3 ++ []
def dkwX6_regretsOf_2 : List UInt8 := [164, 0, 11, 16, 253, 184, 0, 229, 167, 0, 20, 29, 27, 184, 1, 11, 42, 180, 0, 107, 27, 184, 1, 11]
abbrev dktX6_regretsOf_2 : List UInt8 := dkwX6_regretsOf_2 ++ dktX6_regretsOf_3
def dkwX6_regretsOf_1 : List UInt8 := [182, 0, 179, 154, 0, 7, 4, 167, 0, 4, 3, 96, 62, 132, 4, 1, 167, 255, 227, 27, 42, 180, 0, 107]
abbrev dktX6_regretsOf_1 : List UInt8 := dkwX6_regretsOf_1 ++ dktX6_regretsOf_2
def dkwX6_regretsOf_0 : List UInt8 := [42, 182, 0, 139, 3, 62, 3, 54, 4, 21, 4, 42, 180, 0, 107, 162, 0, 26, 29, 42, 21, 4]
abbrev dktX6_regretsOf_0 : List UInt8 := dkwX6_regretsOf_0 ++ dktX6_regretsOf_1
theorem dksX6_regretsOf_0 : cX6_regretsOf.data.toList.drop 0 = dktX6_regretsOf_0 := by decide +kernel
theorem dksX6_regretsOf_1 : cX6_regretsOf.data.toList.drop 22 = dktX6_regretsOf_1 := dk_seg dksX6_regretsOf_0 22 rfl rfl
theorem dksX6_regretsOf_2 : cX6_regretsOf.data.toList.drop 46 = dktX6_regretsOf_2 := dk_seg dksX6_regretsOf_1 24 rfl rfl
theorem dksX6_regretsOf_3 : cX6_regretsOf.data.toList.drop 70 = dktX6_regretsOf_3 := dk_seg dksX6_regretsOf_2 24 rfl rfl
theorem dX6_regretsOf_0 : decode cX6_regretsOf 0 = .ok (.aload_n 0, 1) := dk_42 (dk_at dksX6_regretsOf_0 0 rfl rfl)
theorem dX6_regretsOf_1 : decode cX6_regretsOf 1 = .ok (.invokevirtual 139, 3) := dk_182 0 139 (dk_at dksX6_regretsOf_0 1 rfl rfl)
theorem dX6_regretsOf_4 : decode cX6_regretsOf 4 = .ok (.iconst 0, 1) := dk_3 (dk_at dksX6_regretsOf_0 4 rfl rfl)
theorem dX6_regretsOf_5 : decode cX6_regretsOf 5 = .ok (.istore_n 3, 1) := dk_62 (dk_at dksX6_regretsOf_0 5 rfl rfl)
theorem dX6_regretsOf_6 : decode cX6_regretsOf 6 = .ok (.iconst 0, 1) := dk_3 (dk_at dksX6_regretsOf_0 6 rfl rfl)
theorem dX6_regretsOf_7 : decode cX6_regretsOf 7 = .ok (.istore 4, 2) := dk_54 4 (dk_at dksX6_regretsOf_0 7 rfl rfl)
theorem dX6_regretsOf_9 : decode cX6_regretsOf 9 = .ok (.iload 4, 2) := dk_21 4 (dk_at dksX6_regretsOf_0 9 rfl rfl)
theorem dX6_regretsOf_11 : decode cX6_regretsOf 11 = .ok (.aload_n 0, 1) := dk_42 (dk_at dksX6_regretsOf_0 11 rfl rfl)
theorem dX6_regretsOf_12 : decode cX6_regretsOf 12 = .ok (.getfield 107, 3) := dk_180 0 107 (dk_at dksX6_regretsOf_0 12 rfl rfl)
theorem dX6_regretsOf_15 : decode cX6_regretsOf 15 = .ok (.if_icmp .ge 26, 3) := dk_162 0 26 (dk_at dksX6_regretsOf_0 15 rfl rfl)
theorem dX6_regretsOf_18 : decode cX6_regretsOf 18 = .ok (.iload_n 3, 1) := dk_29 (dk_at dksX6_regretsOf_0 18 rfl rfl)
theorem dX6_regretsOf_19 : decode cX6_regretsOf 19 = .ok (.aload_n 0, 1) := dk_42 (dk_at dksX6_regretsOf_0 19 rfl rfl)
theorem dX6_regretsOf_20 : decode cX6_regretsOf 20 = .ok (.iload 4, 2) := dk_21 4 (dk_at dksX6_regretsOf_0 20 rfl rfl)
theorem dX6_regretsOf_22 : decode cX6_regretsOf 22 = .ok (.invokevirtual 179, 3) := dk_182 0 179 (dk_at dksX6_regretsOf_1 0 rfl rfl)
theorem dX6_regretsOf_25 : decode cX6_regretsOf 25 = .ok (.ifCond .ne 7, 3) := dk_154 0 7 (dk_at dksX6_regretsOf_1 3 rfl rfl)
theorem dX6_regretsOf_28 : decode cX6_regretsOf 28 = .ok (.iconst 1, 1) := dk_4 (dk_at dksX6_regretsOf_1 6 rfl rfl)
theorem dX6_regretsOf_29 : decode cX6_regretsOf 29 = .ok (.goto 4, 3) := dk_167 0 4 (dk_at dksX6_regretsOf_1 7 rfl rfl)
theorem dX6_regretsOf_32 : decode cX6_regretsOf 32 = .ok (.iconst 0, 1) := dk_3 (dk_at dksX6_regretsOf_1 10 rfl rfl)
theorem dX6_regretsOf_33 : decode cX6_regretsOf 33 = .ok (.iadd, 1) := dk_96 (dk_at dksX6_regretsOf_1 11 rfl rfl)
theorem dX6_regretsOf_34 : decode cX6_regretsOf 34 = .ok (.istore_n 3, 1) := dk_62 (dk_at dksX6_regretsOf_1 12 rfl rfl)
theorem dX6_regretsOf_35 : decode cX6_regretsOf 35 = .ok (.iinc 4 1, 3) := dk_132 4 1 (dk_at dksX6_regretsOf_1 13 rfl rfl)
theorem dX6_regretsOf_38 : decode cX6_regretsOf 38 = .ok (.goto (-29), 3) := dk_167 255 227 (dk_at dksX6_regretsOf_1 16 rfl rfl)
theorem dX6_regretsOf_41 : decode cX6_regretsOf 41 = .ok (.iload_n 1, 1) := dk_27 (dk_at dksX6_regretsOf_1 19 rfl rfl)
theorem dX6_regretsOf_42 : decode cX6_regretsOf 42 = .ok (.aload_n 0, 1) := dk_42 (dk_at dksX6_regretsOf_1 20 rfl rfl)
theorem dX6_regretsOf_43 : decode cX6_regretsOf 43 = .ok (.getfield 107, 3) := dk_180 0 107 (dk_at dksX6_regretsOf_1 21 rfl rfl)
theorem dX6_regretsOf_46 : decode cX6_regretsOf 46 = .ok (.if_icmp .le 11, 3) := dk_164 0 11 (dk_at dksX6_regretsOf_2 0 rfl rfl)
theorem dX6_regretsOf_49 : decode cX6_regretsOf 49 = .ok (.bipush (-3), 2) := dk_16 253 (dk_at dksX6_regretsOf_2 3 rfl rfl)
theorem dX6_regretsOf_51 : decode cX6_regretsOf 51 = .ok (.invokestatic 229, 3) := dk_184 0 229 (dk_at dksX6_regretsOf_2 5 rfl rfl)
theorem dX6_regretsOf_54 : decode cX6_regretsOf 54 = .ok (.goto 20, 3) := dk_167 0 20 (dk_at dksX6_regretsOf_2 8 rfl rfl)
theorem dX6_regretsOf_57 : decode cX6_regretsOf 57 = .ok (.iload_n 3, 1) := dk_29 (dk_at dksX6_regretsOf_2 11 rfl rfl)
theorem dX6_regretsOf_58 : decode cX6_regretsOf 58 = .ok (.iload_n 1, 1) := dk_27 (dk_at dksX6_regretsOf_2 12 rfl rfl)
theorem dX6_regretsOf_59 : decode cX6_regretsOf 59 = .ok (.invokestatic 267, 3) := dk_184 1 11 (dk_at dksX6_regretsOf_2 13 rfl rfl)
theorem dX6_regretsOf_62 : decode cX6_regretsOf 62 = .ok (.aload_n 0, 1) := dk_42 (dk_at dksX6_regretsOf_2 16 rfl rfl)
theorem dX6_regretsOf_63 : decode cX6_regretsOf 63 = .ok (.getfield 107, 3) := dk_180 0 107 (dk_at dksX6_regretsOf_2 17 rfl rfl)
theorem dX6_regretsOf_66 : decode cX6_regretsOf 66 = .ok (.iload_n 1, 1) := dk_27 (dk_at dksX6_regretsOf_2 20 rfl rfl)
theorem dX6_regretsOf_67 : decode cX6_regretsOf 67 = .ok (.invokestatic 267, 3) := dk_184 1 11 (dk_at dksX6_regretsOf_2 21 rfl rfl)
theorem dX6_regretsOf_70 : decode cX6_regretsOf 70 = .ok (.iload_n 2, 1) := dk_28 (dk_at dksX6_regretsOf_3 0 rfl rfl)
theorem dX6_regretsOf_71 : decode cX6_regretsOf 71 = .ok (.invokestatic 235, 3) := dk_184 0 235 (dk_at dksX6_regretsOf_3 1 rfl rfl)
theorem dX6_regretsOf_74 : decode cX6_regretsOf 74 = .ok (.lreturn, 1) := dk_173 (dk_at dksX6_regretsOf_3 4 rfl rfl)
abbrev cX6_choose : ByteArray := prog_11_method_8_code
def yX6_choose : MethodName := ⟨RX6, "choose", "(II)J"⟩
def dkwX6_choose_2 : List UInt8 := [167, 255, 227, 32, 173]
abbrev dktX6_choose_2 : List UInt8 := dkwX6_choose_2 ++ []
def dkwX6_choose_1 : List UInt8 := [32, 9, 148, 158, 0, 23, 32, 26, 27, 100, 21, 4, 96, 133, 105, 21, 4, 133, 109, 65, 132, 4, 1]
abbrev dktX6_choose_1 : List UInt8 := dkwX6_choose_1 ++ dktX6_choose_2
def dkwX6_choose_0 : List UInt8 := [27, 155, 0, 8, 27, 26, 164, 0, 7, 9, 167, 0, 4, 10, 65, 4, 54, 4, 21, 4, 27, 163, 0, 29]
abbrev dktX6_choose_0 : List UInt8 := dkwX6_choose_0 ++ dktX6_choose_1
theorem dksX6_choose_0 : cX6_choose.data.toList.drop 0 = dktX6_choose_0 := by decide +kernel
theorem dksX6_choose_1 : cX6_choose.data.toList.drop 24 = dktX6_choose_1 := dk_seg dksX6_choose_0 24 rfl rfl
theorem dksX6_choose_2 : cX6_choose.data.toList.drop 47 = dktX6_choose_2 := dk_seg dksX6_choose_1 23 rfl rfl
theorem dX6_choose_0 : decode cX6_choose 0 = .ok (.iload_n 1, 1) := dk_27 (dk_at dksX6_choose_0 0 rfl rfl)
theorem dX6_choose_1 : decode cX6_choose 1 = .ok (.ifCond .lt 8, 3) := dk_155 0 8 (dk_at dksX6_choose_0 1 rfl rfl)
theorem dX6_choose_4 : decode cX6_choose 4 = .ok (.iload_n 1, 1) := dk_27 (dk_at dksX6_choose_0 4 rfl rfl)
theorem dX6_choose_5 : decode cX6_choose 5 = .ok (.iload_n 0, 1) := dk_26 (dk_at dksX6_choose_0 5 rfl rfl)
theorem dX6_choose_6 : decode cX6_choose 6 = .ok (.if_icmp .le 7, 3) := dk_164 0 7 (dk_at dksX6_choose_0 6 rfl rfl)
theorem dX6_choose_9 : decode cX6_choose 9 = .ok (.lconst 0, 1) := dk_9 (dk_at dksX6_choose_0 9 rfl rfl)
theorem dX6_choose_10 : decode cX6_choose 10 = .ok (.goto 4, 3) := dk_167 0 4 (dk_at dksX6_choose_0 10 rfl rfl)
theorem dX6_choose_13 : decode cX6_choose 13 = .ok (.lconst 1, 1) := dk_10 (dk_at dksX6_choose_0 13 rfl rfl)
theorem dX6_choose_14 : decode cX6_choose 14 = .ok (.lstore_n 2, 1) := dk_65 (dk_at dksX6_choose_0 14 rfl rfl)
theorem dX6_choose_15 : decode cX6_choose 15 = .ok (.iconst 1, 1) := dk_4 (dk_at dksX6_choose_0 15 rfl rfl)
theorem dX6_choose_16 : decode cX6_choose 16 = .ok (.istore 4, 2) := dk_54 4 (dk_at dksX6_choose_0 16 rfl rfl)
theorem dX6_choose_18 : decode cX6_choose 18 = .ok (.iload 4, 2) := dk_21 4 (dk_at dksX6_choose_0 18 rfl rfl)
theorem dX6_choose_20 : decode cX6_choose 20 = .ok (.iload_n 1, 1) := dk_27 (dk_at dksX6_choose_0 20 rfl rfl)
theorem dX6_choose_21 : decode cX6_choose 21 = .ok (.if_icmp .gt 29, 3) := dk_163 0 29 (dk_at dksX6_choose_0 21 rfl rfl)
theorem dX6_choose_24 : decode cX6_choose 24 = .ok (.lload_n 2, 1) := dk_32 (dk_at dksX6_choose_1 0 rfl rfl)
theorem dX6_choose_25 : decode cX6_choose 25 = .ok (.lconst 0, 1) := dk_9 (dk_at dksX6_choose_1 1 rfl rfl)
theorem dX6_choose_26 : decode cX6_choose 26 = .ok (.lcmp, 1) := dk_148 (dk_at dksX6_choose_1 2 rfl rfl)
theorem dX6_choose_27 : decode cX6_choose 27 = .ok (.ifCond .le 23, 3) := dk_158 0 23 (dk_at dksX6_choose_1 3 rfl rfl)
theorem dX6_choose_30 : decode cX6_choose 30 = .ok (.lload_n 2, 1) := dk_32 (dk_at dksX6_choose_1 6 rfl rfl)
theorem dX6_choose_31 : decode cX6_choose 31 = .ok (.iload_n 0, 1) := dk_26 (dk_at dksX6_choose_1 7 rfl rfl)
theorem dX6_choose_32 : decode cX6_choose 32 = .ok (.iload_n 1, 1) := dk_27 (dk_at dksX6_choose_1 8 rfl rfl)
theorem dX6_choose_33 : decode cX6_choose 33 = .ok (.isub, 1) := dk_100 (dk_at dksX6_choose_1 9 rfl rfl)
theorem dX6_choose_34 : decode cX6_choose 34 = .ok (.iload 4, 2) := dk_21 4 (dk_at dksX6_choose_1 10 rfl rfl)
theorem dX6_choose_36 : decode cX6_choose 36 = .ok (.iadd, 1) := dk_96 (dk_at dksX6_choose_1 12 rfl rfl)
theorem dX6_choose_37 : decode cX6_choose 37 = .ok (.i2l, 1) := dk_133 (dk_at dksX6_choose_1 13 rfl rfl)
theorem dX6_choose_38 : decode cX6_choose 38 = .ok (.lmul, 1) := dk_105 (dk_at dksX6_choose_1 14 rfl rfl)
theorem dX6_choose_39 : decode cX6_choose 39 = .ok (.iload 4, 2) := dk_21 4 (dk_at dksX6_choose_1 15 rfl rfl)
theorem dX6_choose_41 : decode cX6_choose 41 = .ok (.i2l, 1) := dk_133 (dk_at dksX6_choose_1 17 rfl rfl)
theorem dX6_choose_42 : decode cX6_choose 42 = .ok (.ldiv, 1) := dk_109 (dk_at dksX6_choose_1 18 rfl rfl)
theorem dX6_choose_43 : decode cX6_choose 43 = .ok (.lstore_n 2, 1) := dk_65 (dk_at dksX6_choose_1 19 rfl rfl)
theorem dX6_choose_44 : decode cX6_choose 44 = .ok (.iinc 4 1, 3) := dk_132 4 1 (dk_at dksX6_choose_1 20 rfl rfl)
theorem dX6_choose_47 : decode cX6_choose 47 = .ok (.goto (-29), 3) := dk_167 255 227 (dk_at dksX6_choose_2 0 rfl rfl)
theorem dX6_choose_50 : decode cX6_choose 50 = .ok (.lload_n 2, 1) := dk_32 (dk_at dksX6_choose_2 3 rfl rfl)
theorem dX6_choose_51 : decode cX6_choose 51 = .ok (.lreturn, 1) := dk_173 (dk_at dksX6_choose_2 4 rfl rfl)
abbrev cX6_sheet : ByteArray := prog_11_method_75_code
def yX6_sheet : MethodName := ⟨RX6, "sheet", "(III)I"⟩
def dkwX6_sheet_3 : List UInt8 := [27, 104, 21, 4, 96, 3, 79, 132, 4, 1, 167, 255, 233, 29, 172]
abbrev dktX6_sheet_3 : List UInt8 := dkwX6_sheet_3 ++ []
def dkwX6_sheet_2 : List UInt8 := [79, 42, 180, 0, 92, 27, 29, 79, 3, 54, 4, 21, 4, 16, 60, 162, 0, 22, 42, 180, 0, 95, 16, 60]
abbrev dktX6_sheet_2 : List UInt8 := dkwX6_sheet_2 ++ dktX6_sheet_3
def dkwX6_sheet_1 : List UInt8 := [172, 29, 156, 0, 9, 42, 8, 182, 0, 161, 172, 42, 180, 0, 85, 27, 4, 84, 42, 180, 0, 89, 27, 28]
abbrev dktX6_sheet_1 : List UInt8 := dkwX6_sheet_1 ++ dktX6_sheet_2
def dkwX6_sheet_0 : List UInt8 := [27, 184, 0, 158, 153, 0, 18, 28, 3, 5, 184, 0, 103, 153, 0, 9, 29, 16, 60, 164, 0, 6, 16, 254]
abbrev dktX6_sheet_0 : List UInt8 := dkwX6_sheet_0 ++ dktX6_sheet_1
theorem dksX6_sheet_0 : cX6_sheet.data.toList.drop 0 = dktX6_sheet_0 := by decide +kernel
theorem dksX6_sheet_1 : cX6_sheet.data.toList.drop 24 = dktX6_sheet_1 := dk_seg dksX6_sheet_0 24 rfl rfl
theorem dksX6_sheet_2 : cX6_sheet.data.toList.drop 48 = dktX6_sheet_2 := dk_seg dksX6_sheet_1 24 rfl rfl
theorem dksX6_sheet_3 : cX6_sheet.data.toList.drop 72 = dktX6_sheet_3 := dk_seg dksX6_sheet_2 24 rfl rfl
theorem dX6_sheet_0 : decode cX6_sheet 0 = .ok (.iload_n 1, 1) := dk_27 (dk_at dksX6_sheet_0 0 rfl rfl)
theorem dX6_sheet_1 : decode cX6_sheet 1 = .ok (.invokestatic 158, 3) := dk_184 0 158 (dk_at dksX6_sheet_0 1 rfl rfl)
theorem dX6_sheet_4 : decode cX6_sheet 4 = .ok (.ifCond .eq 18, 3) := dk_153 0 18 (dk_at dksX6_sheet_0 4 rfl rfl)
theorem dX6_sheet_7 : decode cX6_sheet 7 = .ok (.iload_n 2, 1) := dk_28 (dk_at dksX6_sheet_0 7 rfl rfl)
theorem dX6_sheet_8 : decode cX6_sheet 8 = .ok (.iconst 0, 1) := dk_3 (dk_at dksX6_sheet_0 8 rfl rfl)
theorem dX6_sheet_9 : decode cX6_sheet 9 = .ok (.iconst 2, 1) := dk_5 (dk_at dksX6_sheet_0 9 rfl rfl)
theorem dX6_sheet_10 : decode cX6_sheet 10 = .ok (.invokestatic 103, 3) := dk_184 0 103 (dk_at dksX6_sheet_0 10 rfl rfl)
theorem dX6_sheet_13 : decode cX6_sheet 13 = .ok (.ifCond .eq 9, 3) := dk_153 0 9 (dk_at dksX6_sheet_0 13 rfl rfl)
theorem dX6_sheet_16 : decode cX6_sheet 16 = .ok (.iload_n 3, 1) := dk_29 (dk_at dksX6_sheet_0 16 rfl rfl)
theorem dX6_sheet_17 : decode cX6_sheet 17 = .ok (.bipush 60, 2) := dk_16 60 (dk_at dksX6_sheet_0 17 rfl rfl)
theorem dX6_sheet_19 : decode cX6_sheet 19 = .ok (.if_icmp .le 6, 3) := dk_164 0 6 (dk_at dksX6_sheet_0 19 rfl rfl)
theorem dX6_sheet_22 : decode cX6_sheet 22 = .ok (.bipush (-2), 2) := dk_16 254 (dk_at dksX6_sheet_0 22 rfl rfl)
theorem dX6_sheet_24 : decode cX6_sheet 24 = .ok (.ireturn, 1) := dk_172 (dk_at dksX6_sheet_1 0 rfl rfl)
theorem dX6_sheet_25 : decode cX6_sheet 25 = .ok (.iload_n 3, 1) := dk_29 (dk_at dksX6_sheet_1 1 rfl rfl)
theorem dX6_sheet_26 : decode cX6_sheet 26 = .ok (.ifCond .ge 9, 3) := dk_156 0 9 (dk_at dksX6_sheet_1 2 rfl rfl)
theorem dX6_sheet_29 : decode cX6_sheet 29 = .ok (.aload_n 0, 1) := dk_42 (dk_at dksX6_sheet_1 5 rfl rfl)
theorem dX6_sheet_30 : decode cX6_sheet 30 = .ok (.iconst 5, 1) := dk_8 (dk_at dksX6_sheet_1 6 rfl rfl)
theorem dX6_sheet_31 : decode cX6_sheet 31 = .ok (.invokevirtual 161, 3) := dk_182 0 161 (dk_at dksX6_sheet_1 7 rfl rfl)
theorem dX6_sheet_34 : decode cX6_sheet 34 = .ok (.ireturn, 1) := dk_172 (dk_at dksX6_sheet_1 10 rfl rfl)
theorem dX6_sheet_35 : decode cX6_sheet 35 = .ok (.aload_n 0, 1) := dk_42 (dk_at dksX6_sheet_1 11 rfl rfl)
theorem dX6_sheet_36 : decode cX6_sheet 36 = .ok (.getfield 85, 3) := dk_180 0 85 (dk_at dksX6_sheet_1 12 rfl rfl)
theorem dX6_sheet_39 : decode cX6_sheet 39 = .ok (.iload_n 1, 1) := dk_27 (dk_at dksX6_sheet_1 15 rfl rfl)
theorem dX6_sheet_40 : decode cX6_sheet 40 = .ok (.iconst 1, 1) := dk_4 (dk_at dksX6_sheet_1 16 rfl rfl)
theorem dX6_sheet_41 : decode cX6_sheet 41 = .ok (.bastore, 1) := dk_84 (dk_at dksX6_sheet_1 17 rfl rfl)
theorem dX6_sheet_42 : decode cX6_sheet 42 = .ok (.aload_n 0, 1) := dk_42 (dk_at dksX6_sheet_1 18 rfl rfl)
theorem dX6_sheet_43 : decode cX6_sheet 43 = .ok (.getfield 89, 3) := dk_180 0 89 (dk_at dksX6_sheet_1 19 rfl rfl)
theorem dX6_sheet_46 : decode cX6_sheet 46 = .ok (.iload_n 1, 1) := dk_27 (dk_at dksX6_sheet_1 22 rfl rfl)
theorem dX6_sheet_47 : decode cX6_sheet 47 = .ok (.iload_n 2, 1) := dk_28 (dk_at dksX6_sheet_1 23 rfl rfl)
theorem dX6_sheet_48 : decode cX6_sheet 48 = .ok (.iastore, 1) := dk_79 (dk_at dksX6_sheet_2 0 rfl rfl)
theorem dX6_sheet_49 : decode cX6_sheet 49 = .ok (.aload_n 0, 1) := dk_42 (dk_at dksX6_sheet_2 1 rfl rfl)
theorem dX6_sheet_50 : decode cX6_sheet 50 = .ok (.getfield 92, 3) := dk_180 0 92 (dk_at dksX6_sheet_2 2 rfl rfl)
theorem dX6_sheet_53 : decode cX6_sheet 53 = .ok (.iload_n 1, 1) := dk_27 (dk_at dksX6_sheet_2 5 rfl rfl)
theorem dX6_sheet_54 : decode cX6_sheet 54 = .ok (.iload_n 3, 1) := dk_29 (dk_at dksX6_sheet_2 6 rfl rfl)
theorem dX6_sheet_55 : decode cX6_sheet 55 = .ok (.iastore, 1) := dk_79 (dk_at dksX6_sheet_2 7 rfl rfl)
theorem dX6_sheet_56 : decode cX6_sheet 56 = .ok (.iconst 0, 1) := dk_3 (dk_at dksX6_sheet_2 8 rfl rfl)
theorem dX6_sheet_57 : decode cX6_sheet 57 = .ok (.istore 4, 2) := dk_54 4 (dk_at dksX6_sheet_2 9 rfl rfl)
theorem dX6_sheet_59 : decode cX6_sheet 59 = .ok (.iload 4, 2) := dk_21 4 (dk_at dksX6_sheet_2 11 rfl rfl)
theorem dX6_sheet_61 : decode cX6_sheet 61 = .ok (.bipush 60, 2) := dk_16 60 (dk_at dksX6_sheet_2 13 rfl rfl)
theorem dX6_sheet_63 : decode cX6_sheet 63 = .ok (.if_icmp .ge 22, 3) := dk_162 0 22 (dk_at dksX6_sheet_2 15 rfl rfl)
theorem dX6_sheet_66 : decode cX6_sheet 66 = .ok (.aload_n 0, 1) := dk_42 (dk_at dksX6_sheet_2 18 rfl rfl)
theorem dX6_sheet_67 : decode cX6_sheet 67 = .ok (.getfield 95, 3) := dk_180 0 95 (dk_at dksX6_sheet_2 19 rfl rfl)
theorem dX6_sheet_70 : decode cX6_sheet 70 = .ok (.bipush 60, 2) := dk_16 60 (dk_at dksX6_sheet_2 22 rfl rfl)
theorem dX6_sheet_72 : decode cX6_sheet 72 = .ok (.iload_n 1, 1) := dk_27 (dk_at dksX6_sheet_3 0 rfl rfl)
theorem dX6_sheet_73 : decode cX6_sheet 73 = .ok (.imul, 1) := dk_104 (dk_at dksX6_sheet_3 1 rfl rfl)
theorem dX6_sheet_74 : decode cX6_sheet 74 = .ok (.iload 4, 2) := dk_21 4 (dk_at dksX6_sheet_3 2 rfl rfl)
theorem dX6_sheet_76 : decode cX6_sheet 76 = .ok (.iadd, 1) := dk_96 (dk_at dksX6_sheet_3 4 rfl rfl)
theorem dX6_sheet_77 : decode cX6_sheet 77 = .ok (.iconst 0, 1) := dk_3 (dk_at dksX6_sheet_3 5 rfl rfl)
theorem dX6_sheet_78 : decode cX6_sheet 78 = .ok (.iastore, 1) := dk_79 (dk_at dksX6_sheet_3 6 rfl rfl)
theorem dX6_sheet_79 : decode cX6_sheet 79 = .ok (.iinc 4 1, 3) := dk_132 4 1 (dk_at dksX6_sheet_3 7 rfl rfl)
theorem dX6_sheet_82 : decode cX6_sheet 82 = .ok (.goto (-23), 3) := dk_167 255 233 (dk_at dksX6_sheet_3 10 rfl rfl)
theorem dX6_sheet_85 : decode cX6_sheet 85 = .ok (.iload_n 3, 1) := dk_29 (dk_at dksX6_sheet_3 13 rfl rfl)
theorem dX6_sheet_86 : decode cX6_sheet 86 = .ok (.ireturn, 1) := dk_172 (dk_at dksX6_sheet_3 14 rfl rfl)
abbrev cX6_lose : ByteArray := prog_11_method_76_code
def yX6_lose : MethodName := ⟨RX6, "lose", "(I)I"⟩
def dkwX6_lose_1 : List UInt8 := [172, 42, 180, 0, 85, 27, 3, 84, 42, 180, 0, 92, 27, 46, 172]
abbrev dktX6_lose_1 : List UInt8 := dkwX6_lose_1 ++ []
def dkwX6_lose_0 : List UInt8 := [27, 184, 0, 158, 154, 0, 6, 16, 254, 172, 42, 180, 0, 85, 27, 51, 154, 0, 9, 42, 4, 182, 0, 161]
abbrev dktX6_lose_0 : List UInt8 := dkwX6_lose_0 ++ dktX6_lose_1
theorem dksX6_lose_0 : cX6_lose.data.toList.drop 0 = dktX6_lose_0 := by decide +kernel
theorem dksX6_lose_1 : cX6_lose.data.toList.drop 24 = dktX6_lose_1 := dk_seg dksX6_lose_0 24 rfl rfl
theorem dX6_lose_0 : decode cX6_lose 0 = .ok (.iload_n 1, 1) := dk_27 (dk_at dksX6_lose_0 0 rfl rfl)
theorem dX6_lose_1 : decode cX6_lose 1 = .ok (.invokestatic 158, 3) := dk_184 0 158 (dk_at dksX6_lose_0 1 rfl rfl)
theorem dX6_lose_4 : decode cX6_lose 4 = .ok (.ifCond .ne 6, 3) := dk_154 0 6 (dk_at dksX6_lose_0 4 rfl rfl)
theorem dX6_lose_7 : decode cX6_lose 7 = .ok (.bipush (-2), 2) := dk_16 254 (dk_at dksX6_lose_0 7 rfl rfl)
theorem dX6_lose_9 : decode cX6_lose 9 = .ok (.ireturn, 1) := dk_172 (dk_at dksX6_lose_0 9 rfl rfl)
theorem dX6_lose_10 : decode cX6_lose 10 = .ok (.aload_n 0, 1) := dk_42 (dk_at dksX6_lose_0 10 rfl rfl)
theorem dX6_lose_11 : decode cX6_lose 11 = .ok (.getfield 85, 3) := dk_180 0 85 (dk_at dksX6_lose_0 11 rfl rfl)
theorem dX6_lose_14 : decode cX6_lose 14 = .ok (.iload_n 1, 1) := dk_27 (dk_at dksX6_lose_0 14 rfl rfl)
theorem dX6_lose_15 : decode cX6_lose 15 = .ok (.baload, 1) := dk_51 (dk_at dksX6_lose_0 15 rfl rfl)
theorem dX6_lose_16 : decode cX6_lose 16 = .ok (.ifCond .ne 9, 3) := dk_154 0 9 (dk_at dksX6_lose_0 16 rfl rfl)
theorem dX6_lose_19 : decode cX6_lose 19 = .ok (.aload_n 0, 1) := dk_42 (dk_at dksX6_lose_0 19 rfl rfl)
theorem dX6_lose_20 : decode cX6_lose 20 = .ok (.iconst 1, 1) := dk_4 (dk_at dksX6_lose_0 20 rfl rfl)
theorem dX6_lose_21 : decode cX6_lose 21 = .ok (.invokevirtual 161, 3) := dk_182 0 161 (dk_at dksX6_lose_0 21 rfl rfl)
theorem dX6_lose_24 : decode cX6_lose 24 = .ok (.ireturn, 1) := dk_172 (dk_at dksX6_lose_1 0 rfl rfl)
theorem dX6_lose_25 : decode cX6_lose 25 = .ok (.aload_n 0, 1) := dk_42 (dk_at dksX6_lose_1 1 rfl rfl)
theorem dX6_lose_26 : decode cX6_lose 26 = .ok (.getfield 85, 3) := dk_180 0 85 (dk_at dksX6_lose_1 2 rfl rfl)
theorem dX6_lose_29 : decode cX6_lose 29 = .ok (.iload_n 1, 1) := dk_27 (dk_at dksX6_lose_1 5 rfl rfl)
theorem dX6_lose_30 : decode cX6_lose 30 = .ok (.iconst 0, 1) := dk_3 (dk_at dksX6_lose_1 6 rfl rfl)
theorem dX6_lose_31 : decode cX6_lose 31 = .ok (.bastore, 1) := dk_84 (dk_at dksX6_lose_1 7 rfl rfl)
theorem dX6_lose_32 : decode cX6_lose 32 = .ok (.aload_n 0, 1) := dk_42 (dk_at dksX6_lose_1 8 rfl rfl)
theorem dX6_lose_33 : decode cX6_lose 33 = .ok (.getfield 92, 3) := dk_180 0 92 (dk_at dksX6_lose_1 9 rfl rfl)
theorem dX6_lose_36 : decode cX6_lose 36 = .ok (.iload_n 1, 1) := dk_27 (dk_at dksX6_lose_1 12 rfl rfl)
theorem dX6_lose_37 : decode cX6_lose 37 = .ok (.iaload, 1) := dk_46 (dk_at dksX6_lose_1 13 rfl rfl)
theorem dX6_lose_38 : decode cX6_lose 38 = .ok (.ireturn, 1) := dk_172 (dk_at dksX6_lose_1 14 rfl rfl)
abbrev cX6_put : ByteArray := prog_11_method_79_code
def yX6_put : MethodName := ⟨RX6, "put", "(IIII)I"⟩
def dkwX6_put_2 : List UInt8 := [182, 1, 25, 4, 172]
abbrev dktX6_put_2 : List UInt8 := dkwX6_put_2 ++ []
def dkwX6_put_1 : List UInt8 := [182, 1, 21, 54, 5, 21, 5, 158, 0, 10, 42, 21, 5, 182, 0, 161, 172, 42, 27, 29, 21, 4]
abbrev dktX6_put_1 : List UInt8 := dkwX6_put_1 ++ dktX6_put_2
def dkwX6_put_0 : List UInt8 := [27, 184, 0, 158, 153, 0, 12, 28, 3, 5, 184, 0, 103, 154, 0, 6, 16, 254, 172, 42, 27, 28, 29]
abbrev dktX6_put_0 : List UInt8 := dkwX6_put_0 ++ dktX6_put_1
theorem dksX6_put_0 : cX6_put.data.toList.drop 0 = dktX6_put_0 := by decide +kernel
theorem dksX6_put_1 : cX6_put.data.toList.drop 23 = dktX6_put_1 := dk_seg dksX6_put_0 23 rfl rfl
theorem dksX6_put_2 : cX6_put.data.toList.drop 45 = dktX6_put_2 := dk_seg dksX6_put_1 22 rfl rfl
theorem dX6_put_0 : decode cX6_put 0 = .ok (.iload_n 1, 1) := dk_27 (dk_at dksX6_put_0 0 rfl rfl)
theorem dX6_put_1 : decode cX6_put 1 = .ok (.invokestatic 158, 3) := dk_184 0 158 (dk_at dksX6_put_0 1 rfl rfl)
theorem dX6_put_4 : decode cX6_put 4 = .ok (.ifCond .eq 12, 3) := dk_153 0 12 (dk_at dksX6_put_0 4 rfl rfl)
theorem dX6_put_7 : decode cX6_put 7 = .ok (.iload_n 2, 1) := dk_28 (dk_at dksX6_put_0 7 rfl rfl)
theorem dX6_put_8 : decode cX6_put 8 = .ok (.iconst 0, 1) := dk_3 (dk_at dksX6_put_0 8 rfl rfl)
theorem dX6_put_9 : decode cX6_put 9 = .ok (.iconst 2, 1) := dk_5 (dk_at dksX6_put_0 9 rfl rfl)
theorem dX6_put_10 : decode cX6_put 10 = .ok (.invokestatic 103, 3) := dk_184 0 103 (dk_at dksX6_put_0 10 rfl rfl)
theorem dX6_put_13 : decode cX6_put 13 = .ok (.ifCond .ne 6, 3) := dk_154 0 6 (dk_at dksX6_put_0 13 rfl rfl)
theorem dX6_put_16 : decode cX6_put 16 = .ok (.bipush (-2), 2) := dk_16 254 (dk_at dksX6_put_0 16 rfl rfl)
theorem dX6_put_18 : decode cX6_put 18 = .ok (.ireturn, 1) := dk_172 (dk_at dksX6_put_0 18 rfl rfl)
theorem dX6_put_19 : decode cX6_put 19 = .ok (.aload_n 0, 1) := dk_42 (dk_at dksX6_put_0 19 rfl rfl)
theorem dX6_put_20 : decode cX6_put 20 = .ok (.iload_n 1, 1) := dk_27 (dk_at dksX6_put_0 20 rfl rfl)
theorem dX6_put_21 : decode cX6_put 21 = .ok (.iload_n 2, 1) := dk_28 (dk_at dksX6_put_0 21 rfl rfl)
theorem dX6_put_22 : decode cX6_put 22 = .ok (.iload_n 3, 1) := dk_29 (dk_at dksX6_put_0 22 rfl rfl)
theorem dX6_put_23 : decode cX6_put 23 = .ok (.invokevirtual 277, 3) := dk_182 1 21 (dk_at dksX6_put_1 0 rfl rfl)
theorem dX6_put_26 : decode cX6_put 26 = .ok (.istore 5, 2) := dk_54 5 (dk_at dksX6_put_1 3 rfl rfl)
theorem dX6_put_28 : decode cX6_put 28 = .ok (.iload 5, 2) := dk_21 5 (dk_at dksX6_put_1 5 rfl rfl)
theorem dX6_put_30 : decode cX6_put 30 = .ok (.ifCond .le 10, 3) := dk_158 0 10 (dk_at dksX6_put_1 7 rfl rfl)
theorem dX6_put_33 : decode cX6_put 33 = .ok (.aload_n 0, 1) := dk_42 (dk_at dksX6_put_1 10 rfl rfl)
theorem dX6_put_34 : decode cX6_put 34 = .ok (.iload 5, 2) := dk_21 5 (dk_at dksX6_put_1 11 rfl rfl)
theorem dX6_put_36 : decode cX6_put 36 = .ok (.invokevirtual 161, 3) := dk_182 0 161 (dk_at dksX6_put_1 13 rfl rfl)
theorem dX6_put_39 : decode cX6_put 39 = .ok (.ireturn, 1) := dk_172 (dk_at dksX6_put_1 16 rfl rfl)
theorem dX6_put_40 : decode cX6_put 40 = .ok (.aload_n 0, 1) := dk_42 (dk_at dksX6_put_1 17 rfl rfl)
theorem dX6_put_41 : decode cX6_put 41 = .ok (.iload_n 1, 1) := dk_27 (dk_at dksX6_put_1 18 rfl rfl)
theorem dX6_put_42 : decode cX6_put 42 = .ok (.iload_n 3, 1) := dk_29 (dk_at dksX6_put_1 19 rfl rfl)
theorem dX6_put_43 : decode cX6_put 43 = .ok (.iload 4, 2) := dk_21 4 (dk_at dksX6_put_1 20 rfl rfl)
theorem dX6_put_45 : decode cX6_put 45 = .ok (.invokevirtual 281, 3) := dk_182 1 25 (dk_at dksX6_put_2 0 rfl rfl)
theorem dX6_put_48 : decode cX6_put 48 = .ok (.iconst 1, 1) := dk_4 (dk_at dksX6_put_2 3 rfl rfl)
theorem dX6_put_49 : decode cX6_put 49 = .ok (.ireturn, 1) := dk_172 (dk_at dksX6_put_2 4 rfl rfl)
abbrev cX6_lacks : ByteArray := prog_11_method_77_code
def yX6_lacks : MethodName := ⟨RX6, "lacks", "(III)I"⟩
def dkwX6_lacks_2 : List UInt8 := [172]
abbrev dktX6_lacks_2 : List UInt8 := dkwX6_lacks_2 ++ []
def dkwX6_lacks_1 : List UInt8 := [167, 0, 24, 29, 3, 42, 180, 0, 92, 27, 46, 4, 100, 184, 0, 103, 153, 0, 7, 3, 167, 0, 4, 5]
abbrev dktX6_lacks_1 : List UInt8 := dkwX6_lacks_1 ++ dktX6_lacks_2
def dkwX6_lacks_0 : List UInt8 := [42, 180, 0, 85, 27, 51, 154, 0, 7, 4, 167, 0, 38, 42, 180, 0, 89, 27, 46, 28, 159, 0, 7, 6]
abbrev dktX6_lacks_0 : List UInt8 := dkwX6_lacks_0 ++ dktX6_lacks_1
theorem dksX6_lacks_0 : cX6_lacks.data.toList.drop 0 = dktX6_lacks_0 := by decide +kernel
theorem dksX6_lacks_1 : cX6_lacks.data.toList.drop 24 = dktX6_lacks_1 := dk_seg dksX6_lacks_0 24 rfl rfl
theorem dksX6_lacks_2 : cX6_lacks.data.toList.drop 48 = dktX6_lacks_2 := dk_seg dksX6_lacks_1 24 rfl rfl
theorem dX6_lacks_0 : decode cX6_lacks 0 = .ok (.aload_n 0, 1) := dk_42 (dk_at dksX6_lacks_0 0 rfl rfl)
theorem dX6_lacks_1 : decode cX6_lacks 1 = .ok (.getfield 85, 3) := dk_180 0 85 (dk_at dksX6_lacks_0 1 rfl rfl)
theorem dX6_lacks_4 : decode cX6_lacks 4 = .ok (.iload_n 1, 1) := dk_27 (dk_at dksX6_lacks_0 4 rfl rfl)
theorem dX6_lacks_5 : decode cX6_lacks 5 = .ok (.baload, 1) := dk_51 (dk_at dksX6_lacks_0 5 rfl rfl)
theorem dX6_lacks_6 : decode cX6_lacks 6 = .ok (.ifCond .ne 7, 3) := dk_154 0 7 (dk_at dksX6_lacks_0 6 rfl rfl)
theorem dX6_lacks_9 : decode cX6_lacks 9 = .ok (.iconst 1, 1) := dk_4 (dk_at dksX6_lacks_0 9 rfl rfl)
theorem dX6_lacks_10 : decode cX6_lacks 10 = .ok (.goto 38, 3) := dk_167 0 38 (dk_at dksX6_lacks_0 10 rfl rfl)
theorem dX6_lacks_13 : decode cX6_lacks 13 = .ok (.aload_n 0, 1) := dk_42 (dk_at dksX6_lacks_0 13 rfl rfl)
theorem dX6_lacks_14 : decode cX6_lacks 14 = .ok (.getfield 89, 3) := dk_180 0 89 (dk_at dksX6_lacks_0 14 rfl rfl)
theorem dX6_lacks_17 : decode cX6_lacks 17 = .ok (.iload_n 1, 1) := dk_27 (dk_at dksX6_lacks_0 17 rfl rfl)
theorem dX6_lacks_18 : decode cX6_lacks 18 = .ok (.iaload, 1) := dk_46 (dk_at dksX6_lacks_0 18 rfl rfl)
theorem dX6_lacks_19 : decode cX6_lacks 19 = .ok (.iload_n 2, 1) := dk_28 (dk_at dksX6_lacks_0 19 rfl rfl)
theorem dX6_lacks_20 : decode cX6_lacks 20 = .ok (.if_icmp .eq 7, 3) := dk_159 0 7 (dk_at dksX6_lacks_0 20 rfl rfl)
theorem dX6_lacks_23 : decode cX6_lacks 23 = .ok (.iconst 3, 1) := dk_6 (dk_at dksX6_lacks_0 23 rfl rfl)
theorem dX6_lacks_24 : decode cX6_lacks 24 = .ok (.goto 24, 3) := dk_167 0 24 (dk_at dksX6_lacks_1 0 rfl rfl)
theorem dX6_lacks_27 : decode cX6_lacks 27 = .ok (.iload_n 3, 1) := dk_29 (dk_at dksX6_lacks_1 3 rfl rfl)
theorem dX6_lacks_28 : decode cX6_lacks 28 = .ok (.iconst 0, 1) := dk_3 (dk_at dksX6_lacks_1 4 rfl rfl)
theorem dX6_lacks_29 : decode cX6_lacks 29 = .ok (.aload_n 0, 1) := dk_42 (dk_at dksX6_lacks_1 5 rfl rfl)
theorem dX6_lacks_30 : decode cX6_lacks 30 = .ok (.getfield 92, 3) := dk_180 0 92 (dk_at dksX6_lacks_1 6 rfl rfl)
theorem dX6_lacks_33 : decode cX6_lacks 33 = .ok (.iload_n 1, 1) := dk_27 (dk_at dksX6_lacks_1 9 rfl rfl)
theorem dX6_lacks_34 : decode cX6_lacks 34 = .ok (.iaload, 1) := dk_46 (dk_at dksX6_lacks_1 10 rfl rfl)
theorem dX6_lacks_35 : decode cX6_lacks 35 = .ok (.iconst 1, 1) := dk_4 (dk_at dksX6_lacks_1 11 rfl rfl)
theorem dX6_lacks_36 : decode cX6_lacks 36 = .ok (.isub, 1) := dk_100 (dk_at dksX6_lacks_1 12 rfl rfl)
theorem dX6_lacks_37 : decode cX6_lacks 37 = .ok (.invokestatic 103, 3) := dk_184 0 103 (dk_at dksX6_lacks_1 13 rfl rfl)
theorem dX6_lacks_40 : decode cX6_lacks 40 = .ok (.ifCond .eq 7, 3) := dk_153 0 7 (dk_at dksX6_lacks_1 16 rfl rfl)
theorem dX6_lacks_43 : decode cX6_lacks 43 = .ok (.iconst 0, 1) := dk_3 (dk_at dksX6_lacks_1 19 rfl rfl)
theorem dX6_lacks_44 : decode cX6_lacks 44 = .ok (.goto 4, 3) := dk_167 0 4 (dk_at dksX6_lacks_1 20 rfl rfl)
theorem dX6_lacks_47 : decode cX6_lacks 47 = .ok (.iconst 2, 1) := dk_5 (dk_at dksX6_lacks_1 23 rfl rfl)
theorem dX6_lacks_48 : decode cX6_lacks 48 = .ok (.ireturn, 1) := dk_172 (dk_at dksX6_lacks_2 0 rfl rfl)
abbrev cX6_keep : ByteArray := prog_11_method_78_code
def yX6_keep : MethodName := ⟨RX6, "keep", "(III)V"⟩
def dkwX6_keep_1 : List UInt8 := [42, 180, 0, 89, 27, 46, 4, 160, 0, 8, 29, 147, 167, 0, 4, 29, 79, 177]
abbrev dktX6_keep_1 : List UInt8 := dkwX6_keep_1 ++ []
def dkwX6_keep_0 : List UInt8 := [42, 180, 0, 95, 16, 60, 27, 104, 28, 96, 42, 180, 0, 89, 27, 46, 154, 0, 8, 29, 145, 167, 0, 19]
abbrev dktX6_keep_0 : List UInt8 := dkwX6_keep_0 ++ dktX6_keep_1
theorem dksX6_keep_0 : cX6_keep.data.toList.drop 0 = dktX6_keep_0 := by decide +kernel
theorem dksX6_keep_1 : cX6_keep.data.toList.drop 24 = dktX6_keep_1 := dk_seg dksX6_keep_0 24 rfl rfl
theorem dX6_keep_0 : decode cX6_keep 0 = .ok (.aload_n 0, 1) := dk_42 (dk_at dksX6_keep_0 0 rfl rfl)
theorem dX6_keep_1 : decode cX6_keep 1 = .ok (.getfield 95, 3) := dk_180 0 95 (dk_at dksX6_keep_0 1 rfl rfl)
theorem dX6_keep_4 : decode cX6_keep 4 = .ok (.bipush 60, 2) := dk_16 60 (dk_at dksX6_keep_0 4 rfl rfl)
theorem dX6_keep_6 : decode cX6_keep 6 = .ok (.iload_n 1, 1) := dk_27 (dk_at dksX6_keep_0 6 rfl rfl)
theorem dX6_keep_7 : decode cX6_keep 7 = .ok (.imul, 1) := dk_104 (dk_at dksX6_keep_0 7 rfl rfl)
theorem dX6_keep_8 : decode cX6_keep 8 = .ok (.iload_n 2, 1) := dk_28 (dk_at dksX6_keep_0 8 rfl rfl)
theorem dX6_keep_9 : decode cX6_keep 9 = .ok (.iadd, 1) := dk_96 (dk_at dksX6_keep_0 9 rfl rfl)
theorem dX6_keep_10 : decode cX6_keep 10 = .ok (.aload_n 0, 1) := dk_42 (dk_at dksX6_keep_0 10 rfl rfl)
theorem dX6_keep_11 : decode cX6_keep 11 = .ok (.getfield 89, 3) := dk_180 0 89 (dk_at dksX6_keep_0 11 rfl rfl)
theorem dX6_keep_14 : decode cX6_keep 14 = .ok (.iload_n 1, 1) := dk_27 (dk_at dksX6_keep_0 14 rfl rfl)
theorem dX6_keep_15 : decode cX6_keep 15 = .ok (.iaload, 1) := dk_46 (dk_at dksX6_keep_0 15 rfl rfl)
theorem dX6_keep_16 : decode cX6_keep 16 = .ok (.ifCond .ne 8, 3) := dk_154 0 8 (dk_at dksX6_keep_0 16 rfl rfl)
theorem dX6_keep_19 : decode cX6_keep 19 = .ok (.iload_n 3, 1) := dk_29 (dk_at dksX6_keep_0 19 rfl rfl)
theorem dX6_keep_20 : decode cX6_keep 20 = .ok (.i2b, 1) := dk_145 (dk_at dksX6_keep_0 20 rfl rfl)
theorem dX6_keep_21 : decode cX6_keep 21 = .ok (.goto 19, 3) := dk_167 0 19 (dk_at dksX6_keep_0 21 rfl rfl)
theorem dX6_keep_24 : decode cX6_keep 24 = .ok (.aload_n 0, 1) := dk_42 (dk_at dksX6_keep_1 0 rfl rfl)
theorem dX6_keep_25 : decode cX6_keep 25 = .ok (.getfield 89, 3) := dk_180 0 89 (dk_at dksX6_keep_1 1 rfl rfl)
theorem dX6_keep_28 : decode cX6_keep 28 = .ok (.iload_n 1, 1) := dk_27 (dk_at dksX6_keep_1 4 rfl rfl)
theorem dX6_keep_29 : decode cX6_keep 29 = .ok (.iaload, 1) := dk_46 (dk_at dksX6_keep_1 5 rfl rfl)
theorem dX6_keep_30 : decode cX6_keep 30 = .ok (.iconst 1, 1) := dk_4 (dk_at dksX6_keep_1 6 rfl rfl)
theorem dX6_keep_31 : decode cX6_keep 31 = .ok (.if_icmp .ne 8, 3) := dk_160 0 8 (dk_at dksX6_keep_1 7 rfl rfl)
theorem dX6_keep_34 : decode cX6_keep 34 = .ok (.iload_n 3, 1) := dk_29 (dk_at dksX6_keep_1 10 rfl rfl)
theorem dX6_keep_35 : decode cX6_keep 35 = .ok (.i2s, 1) := dk_147 (dk_at dksX6_keep_1 11 rfl rfl)
theorem dX6_keep_36 : decode cX6_keep 36 = .ok (.goto 4, 3) := dk_167 0 4 (dk_at dksX6_keep_1 12 rfl rfl)
theorem dX6_keep_39 : decode cX6_keep 39 = .ok (.iload_n 3, 1) := dk_29 (dk_at dksX6_keep_1 15 rfl rfl)
theorem dX6_keep_40 : decode cX6_keep 40 = .ok (.iastore, 1) := dk_79 (dk_at dksX6_keep_1 16 rfl rfl)
theorem dX6_keep_41 : decode cX6_keep 41 = .ok (.return_, 1) := dk_177 (dk_at dksX6_keep_1 17 rfl rfl)
abbrev cX6_get : ByteArray := prog_11_method_80_code
def yX6_get : MethodName := ⟨RX6, "get", "(III)I"⟩
def dkwX6_get_2 : List UInt8 := [16, 60, 27, 104, 29, 96, 46, 172]
abbrev dktX6_get_2 : List UInt8 := dkwX6_get_2 ++ []
def dkwX6_get_1 : List UInt8 := [182, 1, 21, 54, 4, 21, 4, 158, 0, 13, 42, 21, 4, 181, 1, 18, 19, 1, 29, 172, 42, 180, 0, 95]
abbrev dktX6_get_1 : List UInt8 := dkwX6_get_1 ++ dktX6_get_2
def dkwX6_get_0 : List UInt8 := [27, 184, 0, 158, 153, 0, 12, 28, 3, 5, 184, 0, 103, 154, 0, 7, 19, 1, 29, 172, 42, 27, 28, 29]
abbrev dktX6_get_0 : List UInt8 := dkwX6_get_0 ++ dktX6_get_1
theorem dksX6_get_0 : cX6_get.data.toList.drop 0 = dktX6_get_0 := by decide +kernel
theorem dksX6_get_1 : cX6_get.data.toList.drop 24 = dktX6_get_1 := dk_seg dksX6_get_0 24 rfl rfl
theorem dksX6_get_2 : cX6_get.data.toList.drop 48 = dktX6_get_2 := dk_seg dksX6_get_1 24 rfl rfl
theorem dX6_get_0 : decode cX6_get 0 = .ok (.iload_n 1, 1) := dk_27 (dk_at dksX6_get_0 0 rfl rfl)
theorem dX6_get_1 : decode cX6_get 1 = .ok (.invokestatic 158, 3) := dk_184 0 158 (dk_at dksX6_get_0 1 rfl rfl)
theorem dX6_get_4 : decode cX6_get 4 = .ok (.ifCond .eq 12, 3) := dk_153 0 12 (dk_at dksX6_get_0 4 rfl rfl)
theorem dX6_get_7 : decode cX6_get 7 = .ok (.iload_n 2, 1) := dk_28 (dk_at dksX6_get_0 7 rfl rfl)
theorem dX6_get_8 : decode cX6_get 8 = .ok (.iconst 0, 1) := dk_3 (dk_at dksX6_get_0 8 rfl rfl)
theorem dX6_get_9 : decode cX6_get 9 = .ok (.iconst 2, 1) := dk_5 (dk_at dksX6_get_0 9 rfl rfl)
theorem dX6_get_10 : decode cX6_get 10 = .ok (.invokestatic 103, 3) := dk_184 0 103 (dk_at dksX6_get_0 10 rfl rfl)
theorem dX6_get_13 : decode cX6_get 13 = .ok (.ifCond .ne 7, 3) := dk_154 0 7 (dk_at dksX6_get_0 13 rfl rfl)
theorem dX6_get_16 : decode cX6_get 16 = .ok (.ldc_w 285, 3) := dk_19 1 29 (dk_at dksX6_get_0 16 rfl rfl)
theorem dX6_get_19 : decode cX6_get 19 = .ok (.ireturn, 1) := dk_172 (dk_at dksX6_get_0 19 rfl rfl)
theorem dX6_get_20 : decode cX6_get 20 = .ok (.aload_n 0, 1) := dk_42 (dk_at dksX6_get_0 20 rfl rfl)
theorem dX6_get_21 : decode cX6_get 21 = .ok (.iload_n 1, 1) := dk_27 (dk_at dksX6_get_0 21 rfl rfl)
theorem dX6_get_22 : decode cX6_get 22 = .ok (.iload_n 2, 1) := dk_28 (dk_at dksX6_get_0 22 rfl rfl)
theorem dX6_get_23 : decode cX6_get 23 = .ok (.iload_n 3, 1) := dk_29 (dk_at dksX6_get_0 23 rfl rfl)
theorem dX6_get_24 : decode cX6_get 24 = .ok (.invokevirtual 277, 3) := dk_182 1 21 (dk_at dksX6_get_1 0 rfl rfl)
theorem dX6_get_27 : decode cX6_get 27 = .ok (.istore 4, 2) := dk_54 4 (dk_at dksX6_get_1 3 rfl rfl)
theorem dX6_get_29 : decode cX6_get 29 = .ok (.iload 4, 2) := dk_21 4 (dk_at dksX6_get_1 5 rfl rfl)
theorem dX6_get_31 : decode cX6_get 31 = .ok (.ifCond .le 13, 3) := dk_158 0 13 (dk_at dksX6_get_1 7 rfl rfl)
theorem dX6_get_34 : decode cX6_get 34 = .ok (.aload_n 0, 1) := dk_42 (dk_at dksX6_get_1 10 rfl rfl)
theorem dX6_get_35 : decode cX6_get 35 = .ok (.iload 4, 2) := dk_21 4 (dk_at dksX6_get_1 11 rfl rfl)
theorem dX6_get_37 : decode cX6_get 37 = .ok (.putfield 274, 3) := dk_181 1 18 (dk_at dksX6_get_1 13 rfl rfl)
theorem dX6_get_40 : decode cX6_get 40 = .ok (.ldc_w 285, 3) := dk_19 1 29 (dk_at dksX6_get_1 16 rfl rfl)
theorem dX6_get_43 : decode cX6_get 43 = .ok (.ireturn, 1) := dk_172 (dk_at dksX6_get_1 19 rfl rfl)
theorem dX6_get_44 : decode cX6_get 44 = .ok (.aload_n 0, 1) := dk_42 (dk_at dksX6_get_1 20 rfl rfl)
theorem dX6_get_45 : decode cX6_get 45 = .ok (.getfield 95, 3) := dk_180 0 95 (dk_at dksX6_get_1 21 rfl rfl)
theorem dX6_get_48 : decode cX6_get 48 = .ok (.bipush 60, 2) := dk_16 60 (dk_at dksX6_get_2 0 rfl rfl)
theorem dX6_get_50 : decode cX6_get 50 = .ok (.iload_n 1, 1) := dk_27 (dk_at dksX6_get_2 2 rfl rfl)
theorem dX6_get_51 : decode cX6_get 51 = .ok (.imul, 1) := dk_104 (dk_at dksX6_get_2 3 rfl rfl)
theorem dX6_get_52 : decode cX6_get 52 = .ok (.iload_n 3, 1) := dk_29 (dk_at dksX6_get_2 4 rfl rfl)
theorem dX6_get_53 : decode cX6_get 53 = .ok (.iadd, 1) := dk_96 (dk_at dksX6_get_2 5 rfl rfl)
theorem dX6_get_54 : decode cX6_get 54 = .ok (.iaload, 1) := dk_46 (dk_at dksX6_get_2 6 rfl rfl)
theorem dX6_get_55 : decode cX6_get 55 = .ok (.ireturn, 1) := dk_172 (dk_at dksX6_get_2 7 rfl rfl)
abbrev cX6_copy : ByteArray := prog_11_method_81_code
def yX6_copy : MethodName := ⟨RX6, "copy", "(IIIII)I"⟩
def dkwX6_copy_8 : List UInt8 := [167, 255, 224, 4, 172]
abbrev dktX6_copy_8 : List UInt8 := dkwX6_copy_8 ++ []
def dkwX6_copy_7 : List UInt8 := [180, 0, 95, 16, 60, 29, 104, 21, 4, 96, 21, 6, 96, 42, 180, 0, 98, 21, 6, 46, 79, 132, 6, 1]
abbrev dktX6_copy_7 : List UInt8 := dkwX6_copy_7 ++ dktX6_copy_8
def dkwX6_copy_6 : List UInt8 := [96, 21, 6, 96, 46, 79, 132, 6, 1, 167, 255, 225, 3, 54, 6, 21, 6, 21, 5, 162, 0, 31, 42]
abbrev dktX6_copy_6 : List UInt8 := dkwX6_copy_6 ++ dktX6_copy_7
def dkwX6_copy_5 : List UInt8 := [54, 6, 21, 6, 21, 5, 162, 0, 30, 42, 180, 0, 98, 21, 6, 42, 180, 0, 95, 16, 60, 27, 104, 28]
abbrev dktX6_copy_5 : List UInt8 := dkwX6_copy_5 ++ dktX6_copy_6
def dkwX6_copy_4 : List UInt8 := [133, 21, 5, 133, 97, 42, 180, 0, 92, 29, 46, 133, 148, 158, 0, 9, 42, 5, 182, 0, 161, 172, 3]
abbrev dktX6_copy_4 : List UInt8 := dkwX6_copy_4 ++ dktX6_copy_5
def dkwX6_copy_3 : List UInt8 := [21, 5, 155, 0, 38, 28, 133, 21, 5, 133, 97, 42, 180, 0, 92, 27, 46, 133, 148, 157, 0, 21, 21, 4]
abbrev dktX6_copy_3 : List UInt8 := dkwX6_copy_3 ++ dktX6_copy_4
def dkwX6_copy_2 : List UInt8 := [42, 180, 0, 89, 29, 46, 159, 0, 9, 42, 7, 182, 0, 161, 172, 28, 155, 0, 48, 21, 4, 155, 0, 43]
abbrev dktX6_copy_2 : List UInt8 := dkwX6_copy_2 ++ dktX6_copy_3
def dkwX6_copy_1 : List UInt8 := [153, 0, 12, 42, 180, 0, 85, 29, 51, 154, 0, 9, 42, 4, 182, 0, 161, 172, 42, 180, 0, 89, 27, 46]
abbrev dktX6_copy_1 : List UInt8 := dkwX6_copy_1 ++ dktX6_copy_2
def dkwX6_copy_0 : List UInt8 := [27, 184, 0, 158, 153, 0, 10, 29, 184, 0, 158, 154, 0, 6, 16, 254, 172, 42, 180, 0, 85, 27, 51]
abbrev dktX6_copy_0 : List UInt8 := dkwX6_copy_0 ++ dktX6_copy_1
theorem dksX6_copy_0 : cX6_copy.data.toList.drop 0 = dktX6_copy_0 := by decide +kernel
theorem dksX6_copy_1 : cX6_copy.data.toList.drop 23 = dktX6_copy_1 := dk_seg dksX6_copy_0 23 rfl rfl
theorem dksX6_copy_2 : cX6_copy.data.toList.drop 47 = dktX6_copy_2 := dk_seg dksX6_copy_1 24 rfl rfl
theorem dksX6_copy_3 : cX6_copy.data.toList.drop 71 = dktX6_copy_3 := dk_seg dksX6_copy_2 24 rfl rfl
theorem dksX6_copy_4 : cX6_copy.data.toList.drop 95 = dktX6_copy_4 := dk_seg dksX6_copy_3 24 rfl rfl
theorem dksX6_copy_5 : cX6_copy.data.toList.drop 118 = dktX6_copy_5 := dk_seg dksX6_copy_4 23 rfl rfl
theorem dksX6_copy_6 : cX6_copy.data.toList.drop 142 = dktX6_copy_6 := dk_seg dksX6_copy_5 24 rfl rfl
theorem dksX6_copy_7 : cX6_copy.data.toList.drop 165 = dktX6_copy_7 := dk_seg dksX6_copy_6 23 rfl rfl
theorem dksX6_copy_8 : cX6_copy.data.toList.drop 189 = dktX6_copy_8 := dk_seg dksX6_copy_7 24 rfl rfl
theorem dX6_copy_0 : decode cX6_copy 0 = .ok (.iload_n 1, 1) := dk_27 (dk_at dksX6_copy_0 0 rfl rfl)
theorem dX6_copy_1 : decode cX6_copy 1 = .ok (.invokestatic 158, 3) := dk_184 0 158 (dk_at dksX6_copy_0 1 rfl rfl)
theorem dX6_copy_4 : decode cX6_copy 4 = .ok (.ifCond .eq 10, 3) := dk_153 0 10 (dk_at dksX6_copy_0 4 rfl rfl)
theorem dX6_copy_7 : decode cX6_copy 7 = .ok (.iload_n 3, 1) := dk_29 (dk_at dksX6_copy_0 7 rfl rfl)
theorem dX6_copy_8 : decode cX6_copy 8 = .ok (.invokestatic 158, 3) := dk_184 0 158 (dk_at dksX6_copy_0 8 rfl rfl)
theorem dX6_copy_11 : decode cX6_copy 11 = .ok (.ifCond .ne 6, 3) := dk_154 0 6 (dk_at dksX6_copy_0 11 rfl rfl)
theorem dX6_copy_14 : decode cX6_copy 14 = .ok (.bipush (-2), 2) := dk_16 254 (dk_at dksX6_copy_0 14 rfl rfl)
theorem dX6_copy_16 : decode cX6_copy 16 = .ok (.ireturn, 1) := dk_172 (dk_at dksX6_copy_0 16 rfl rfl)
theorem dX6_copy_17 : decode cX6_copy 17 = .ok (.aload_n 0, 1) := dk_42 (dk_at dksX6_copy_0 17 rfl rfl)
theorem dX6_copy_18 : decode cX6_copy 18 = .ok (.getfield 85, 3) := dk_180 0 85 (dk_at dksX6_copy_0 18 rfl rfl)
theorem dX6_copy_21 : decode cX6_copy 21 = .ok (.iload_n 1, 1) := dk_27 (dk_at dksX6_copy_0 21 rfl rfl)
theorem dX6_copy_22 : decode cX6_copy 22 = .ok (.baload, 1) := dk_51 (dk_at dksX6_copy_0 22 rfl rfl)
theorem dX6_copy_23 : decode cX6_copy 23 = .ok (.ifCond .eq 12, 3) := dk_153 0 12 (dk_at dksX6_copy_1 0 rfl rfl)
theorem dX6_copy_26 : decode cX6_copy 26 = .ok (.aload_n 0, 1) := dk_42 (dk_at dksX6_copy_1 3 rfl rfl)
theorem dX6_copy_27 : decode cX6_copy 27 = .ok (.getfield 85, 3) := dk_180 0 85 (dk_at dksX6_copy_1 4 rfl rfl)
theorem dX6_copy_30 : decode cX6_copy 30 = .ok (.iload_n 3, 1) := dk_29 (dk_at dksX6_copy_1 7 rfl rfl)
theorem dX6_copy_31 : decode cX6_copy 31 = .ok (.baload, 1) := dk_51 (dk_at dksX6_copy_1 8 rfl rfl)
theorem dX6_copy_32 : decode cX6_copy 32 = .ok (.ifCond .ne 9, 3) := dk_154 0 9 (dk_at dksX6_copy_1 9 rfl rfl)
theorem dX6_copy_35 : decode cX6_copy 35 = .ok (.aload_n 0, 1) := dk_42 (dk_at dksX6_copy_1 12 rfl rfl)
theorem dX6_copy_36 : decode cX6_copy 36 = .ok (.iconst 1, 1) := dk_4 (dk_at dksX6_copy_1 13 rfl rfl)
theorem dX6_copy_37 : decode cX6_copy 37 = .ok (.invokevirtual 161, 3) := dk_182 0 161 (dk_at dksX6_copy_1 14 rfl rfl)
theorem dX6_copy_40 : decode cX6_copy 40 = .ok (.ireturn, 1) := dk_172 (dk_at dksX6_copy_1 17 rfl rfl)
theorem dX6_copy_41 : decode cX6_copy 41 = .ok (.aload_n 0, 1) := dk_42 (dk_at dksX6_copy_1 18 rfl rfl)
theorem dX6_copy_42 : decode cX6_copy 42 = .ok (.getfield 89, 3) := dk_180 0 89 (dk_at dksX6_copy_1 19 rfl rfl)
theorem dX6_copy_45 : decode cX6_copy 45 = .ok (.iload_n 1, 1) := dk_27 (dk_at dksX6_copy_1 22 rfl rfl)
theorem dX6_copy_46 : decode cX6_copy 46 = .ok (.iaload, 1) := dk_46 (dk_at dksX6_copy_1 23 rfl rfl)
theorem dX6_copy_47 : decode cX6_copy 47 = .ok (.aload_n 0, 1) := dk_42 (dk_at dksX6_copy_2 0 rfl rfl)
theorem dX6_copy_48 : decode cX6_copy 48 = .ok (.getfield 89, 3) := dk_180 0 89 (dk_at dksX6_copy_2 1 rfl rfl)
theorem dX6_copy_51 : decode cX6_copy 51 = .ok (.iload_n 3, 1) := dk_29 (dk_at dksX6_copy_2 4 rfl rfl)
theorem dX6_copy_52 : decode cX6_copy 52 = .ok (.iaload, 1) := dk_46 (dk_at dksX6_copy_2 5 rfl rfl)
theorem dX6_copy_53 : decode cX6_copy 53 = .ok (.if_icmp .eq 9, 3) := dk_159 0 9 (dk_at dksX6_copy_2 6 rfl rfl)
theorem dX6_copy_56 : decode cX6_copy 56 = .ok (.aload_n 0, 1) := dk_42 (dk_at dksX6_copy_2 9 rfl rfl)
theorem dX6_copy_57 : decode cX6_copy 57 = .ok (.iconst 4, 1) := dk_7 (dk_at dksX6_copy_2 10 rfl rfl)
theorem dX6_copy_58 : decode cX6_copy 58 = .ok (.invokevirtual 161, 3) := dk_182 0 161 (dk_at dksX6_copy_2 11 rfl rfl)
theorem dX6_copy_61 : decode cX6_copy 61 = .ok (.ireturn, 1) := dk_172 (dk_at dksX6_copy_2 14 rfl rfl)
theorem dX6_copy_62 : decode cX6_copy 62 = .ok (.iload_n 2, 1) := dk_28 (dk_at dksX6_copy_2 15 rfl rfl)
theorem dX6_copy_63 : decode cX6_copy 63 = .ok (.ifCond .lt 48, 3) := dk_155 0 48 (dk_at dksX6_copy_2 16 rfl rfl)
theorem dX6_copy_66 : decode cX6_copy 66 = .ok (.iload 4, 2) := dk_21 4 (dk_at dksX6_copy_2 19 rfl rfl)
theorem dX6_copy_68 : decode cX6_copy 68 = .ok (.ifCond .lt 43, 3) := dk_155 0 43 (dk_at dksX6_copy_2 21 rfl rfl)
theorem dX6_copy_71 : decode cX6_copy 71 = .ok (.iload 5, 2) := dk_21 5 (dk_at dksX6_copy_3 0 rfl rfl)
theorem dX6_copy_73 : decode cX6_copy 73 = .ok (.ifCond .lt 38, 3) := dk_155 0 38 (dk_at dksX6_copy_3 2 rfl rfl)
theorem dX6_copy_76 : decode cX6_copy 76 = .ok (.iload_n 2, 1) := dk_28 (dk_at dksX6_copy_3 5 rfl rfl)
theorem dX6_copy_77 : decode cX6_copy 77 = .ok (.i2l, 1) := dk_133 (dk_at dksX6_copy_3 6 rfl rfl)
theorem dX6_copy_78 : decode cX6_copy 78 = .ok (.iload 5, 2) := dk_21 5 (dk_at dksX6_copy_3 7 rfl rfl)
theorem dX6_copy_80 : decode cX6_copy 80 = .ok (.i2l, 1) := dk_133 (dk_at dksX6_copy_3 9 rfl rfl)
theorem dX6_copy_81 : decode cX6_copy 81 = .ok (.ladd, 1) := dk_97 (dk_at dksX6_copy_3 10 rfl rfl)
theorem dX6_copy_82 : decode cX6_copy 82 = .ok (.aload_n 0, 1) := dk_42 (dk_at dksX6_copy_3 11 rfl rfl)
theorem dX6_copy_83 : decode cX6_copy 83 = .ok (.getfield 92, 3) := dk_180 0 92 (dk_at dksX6_copy_3 12 rfl rfl)
theorem dX6_copy_86 : decode cX6_copy 86 = .ok (.iload_n 1, 1) := dk_27 (dk_at dksX6_copy_3 15 rfl rfl)
theorem dX6_copy_87 : decode cX6_copy 87 = .ok (.iaload, 1) := dk_46 (dk_at dksX6_copy_3 16 rfl rfl)
theorem dX6_copy_88 : decode cX6_copy 88 = .ok (.i2l, 1) := dk_133 (dk_at dksX6_copy_3 17 rfl rfl)
theorem dX6_copy_89 : decode cX6_copy 89 = .ok (.lcmp, 1) := dk_148 (dk_at dksX6_copy_3 18 rfl rfl)
theorem dX6_copy_90 : decode cX6_copy 90 = .ok (.ifCond .gt 21, 3) := dk_157 0 21 (dk_at dksX6_copy_3 19 rfl rfl)
theorem dX6_copy_93 : decode cX6_copy 93 = .ok (.iload 4, 2) := dk_21 4 (dk_at dksX6_copy_3 22 rfl rfl)
theorem dX6_copy_95 : decode cX6_copy 95 = .ok (.i2l, 1) := dk_133 (dk_at dksX6_copy_4 0 rfl rfl)
theorem dX6_copy_96 : decode cX6_copy 96 = .ok (.iload 5, 2) := dk_21 5 (dk_at dksX6_copy_4 1 rfl rfl)
theorem dX6_copy_98 : decode cX6_copy 98 = .ok (.i2l, 1) := dk_133 (dk_at dksX6_copy_4 3 rfl rfl)
theorem dX6_copy_99 : decode cX6_copy 99 = .ok (.ladd, 1) := dk_97 (dk_at dksX6_copy_4 4 rfl rfl)
theorem dX6_copy_100 : decode cX6_copy 100 = .ok (.aload_n 0, 1) := dk_42 (dk_at dksX6_copy_4 5 rfl rfl)
theorem dX6_copy_101 : decode cX6_copy 101 = .ok (.getfield 92, 3) := dk_180 0 92 (dk_at dksX6_copy_4 6 rfl rfl)
theorem dX6_copy_104 : decode cX6_copy 104 = .ok (.iload_n 3, 1) := dk_29 (dk_at dksX6_copy_4 9 rfl rfl)
theorem dX6_copy_105 : decode cX6_copy 105 = .ok (.iaload, 1) := dk_46 (dk_at dksX6_copy_4 10 rfl rfl)
theorem dX6_copy_106 : decode cX6_copy 106 = .ok (.i2l, 1) := dk_133 (dk_at dksX6_copy_4 11 rfl rfl)
theorem dX6_copy_107 : decode cX6_copy 107 = .ok (.lcmp, 1) := dk_148 (dk_at dksX6_copy_4 12 rfl rfl)
theorem dX6_copy_108 : decode cX6_copy 108 = .ok (.ifCond .le 9, 3) := dk_158 0 9 (dk_at dksX6_copy_4 13 rfl rfl)
theorem dX6_copy_111 : decode cX6_copy 111 = .ok (.aload_n 0, 1) := dk_42 (dk_at dksX6_copy_4 16 rfl rfl)
theorem dX6_copy_112 : decode cX6_copy 112 = .ok (.iconst 2, 1) := dk_5 (dk_at dksX6_copy_4 17 rfl rfl)
theorem dX6_copy_113 : decode cX6_copy 113 = .ok (.invokevirtual 161, 3) := dk_182 0 161 (dk_at dksX6_copy_4 18 rfl rfl)
theorem dX6_copy_116 : decode cX6_copy 116 = .ok (.ireturn, 1) := dk_172 (dk_at dksX6_copy_4 21 rfl rfl)
theorem dX6_copy_117 : decode cX6_copy 117 = .ok (.iconst 0, 1) := dk_3 (dk_at dksX6_copy_4 22 rfl rfl)
theorem dX6_copy_118 : decode cX6_copy 118 = .ok (.istore 6, 2) := dk_54 6 (dk_at dksX6_copy_5 0 rfl rfl)
theorem dX6_copy_120 : decode cX6_copy 120 = .ok (.iload 6, 2) := dk_21 6 (dk_at dksX6_copy_5 2 rfl rfl)
theorem dX6_copy_122 : decode cX6_copy 122 = .ok (.iload 5, 2) := dk_21 5 (dk_at dksX6_copy_5 4 rfl rfl)
theorem dX6_copy_124 : decode cX6_copy 124 = .ok (.if_icmp .ge 30, 3) := dk_162 0 30 (dk_at dksX6_copy_5 6 rfl rfl)
theorem dX6_copy_127 : decode cX6_copy 127 = .ok (.aload_n 0, 1) := dk_42 (dk_at dksX6_copy_5 9 rfl rfl)
theorem dX6_copy_128 : decode cX6_copy 128 = .ok (.getfield 98, 3) := dk_180 0 98 (dk_at dksX6_copy_5 10 rfl rfl)
theorem dX6_copy_131 : decode cX6_copy 131 = .ok (.iload 6, 2) := dk_21 6 (dk_at dksX6_copy_5 13 rfl rfl)
theorem dX6_copy_133 : decode cX6_copy 133 = .ok (.aload_n 0, 1) := dk_42 (dk_at dksX6_copy_5 15 rfl rfl)
theorem dX6_copy_134 : decode cX6_copy 134 = .ok (.getfield 95, 3) := dk_180 0 95 (dk_at dksX6_copy_5 16 rfl rfl)
theorem dX6_copy_137 : decode cX6_copy 137 = .ok (.bipush 60, 2) := dk_16 60 (dk_at dksX6_copy_5 19 rfl rfl)
theorem dX6_copy_139 : decode cX6_copy 139 = .ok (.iload_n 1, 1) := dk_27 (dk_at dksX6_copy_5 21 rfl rfl)
theorem dX6_copy_140 : decode cX6_copy 140 = .ok (.imul, 1) := dk_104 (dk_at dksX6_copy_5 22 rfl rfl)
theorem dX6_copy_141 : decode cX6_copy 141 = .ok (.iload_n 2, 1) := dk_28 (dk_at dksX6_copy_5 23 rfl rfl)
theorem dX6_copy_142 : decode cX6_copy 142 = .ok (.iadd, 1) := dk_96 (dk_at dksX6_copy_6 0 rfl rfl)
theorem dX6_copy_143 : decode cX6_copy 143 = .ok (.iload 6, 2) := dk_21 6 (dk_at dksX6_copy_6 1 rfl rfl)
theorem dX6_copy_145 : decode cX6_copy 145 = .ok (.iadd, 1) := dk_96 (dk_at dksX6_copy_6 3 rfl rfl)
theorem dX6_copy_146 : decode cX6_copy 146 = .ok (.iaload, 1) := dk_46 (dk_at dksX6_copy_6 4 rfl rfl)
theorem dX6_copy_147 : decode cX6_copy 147 = .ok (.iastore, 1) := dk_79 (dk_at dksX6_copy_6 5 rfl rfl)
theorem dX6_copy_148 : decode cX6_copy 148 = .ok (.iinc 6 1, 3) := dk_132 6 1 (dk_at dksX6_copy_6 6 rfl rfl)
theorem dX6_copy_151 : decode cX6_copy 151 = .ok (.goto (-31), 3) := dk_167 255 225 (dk_at dksX6_copy_6 9 rfl rfl)
theorem dX6_copy_154 : decode cX6_copy 154 = .ok (.iconst 0, 1) := dk_3 (dk_at dksX6_copy_6 12 rfl rfl)
theorem dX6_copy_155 : decode cX6_copy 155 = .ok (.istore 6, 2) := dk_54 6 (dk_at dksX6_copy_6 13 rfl rfl)
theorem dX6_copy_157 : decode cX6_copy 157 = .ok (.iload 6, 2) := dk_21 6 (dk_at dksX6_copy_6 15 rfl rfl)
theorem dX6_copy_159 : decode cX6_copy 159 = .ok (.iload 5, 2) := dk_21 5 (dk_at dksX6_copy_6 17 rfl rfl)
theorem dX6_copy_161 : decode cX6_copy 161 = .ok (.if_icmp .ge 31, 3) := dk_162 0 31 (dk_at dksX6_copy_6 19 rfl rfl)
theorem dX6_copy_164 : decode cX6_copy 164 = .ok (.aload_n 0, 1) := dk_42 (dk_at dksX6_copy_6 22 rfl rfl)
theorem dX6_copy_165 : decode cX6_copy 165 = .ok (.getfield 95, 3) := dk_180 0 95 (dk_at dksX6_copy_7 0 rfl rfl)
theorem dX6_copy_168 : decode cX6_copy 168 = .ok (.bipush 60, 2) := dk_16 60 (dk_at dksX6_copy_7 3 rfl rfl)
theorem dX6_copy_170 : decode cX6_copy 170 = .ok (.iload_n 3, 1) := dk_29 (dk_at dksX6_copy_7 5 rfl rfl)
theorem dX6_copy_171 : decode cX6_copy 171 = .ok (.imul, 1) := dk_104 (dk_at dksX6_copy_7 6 rfl rfl)
theorem dX6_copy_172 : decode cX6_copy 172 = .ok (.iload 4, 2) := dk_21 4 (dk_at dksX6_copy_7 7 rfl rfl)
theorem dX6_copy_174 : decode cX6_copy 174 = .ok (.iadd, 1) := dk_96 (dk_at dksX6_copy_7 9 rfl rfl)
theorem dX6_copy_175 : decode cX6_copy 175 = .ok (.iload 6, 2) := dk_21 6 (dk_at dksX6_copy_7 10 rfl rfl)
theorem dX6_copy_177 : decode cX6_copy 177 = .ok (.iadd, 1) := dk_96 (dk_at dksX6_copy_7 12 rfl rfl)
theorem dX6_copy_178 : decode cX6_copy 178 = .ok (.aload_n 0, 1) := dk_42 (dk_at dksX6_copy_7 13 rfl rfl)
theorem dX6_copy_179 : decode cX6_copy 179 = .ok (.getfield 98, 3) := dk_180 0 98 (dk_at dksX6_copy_7 14 rfl rfl)
theorem dX6_copy_182 : decode cX6_copy 182 = .ok (.iload 6, 2) := dk_21 6 (dk_at dksX6_copy_7 17 rfl rfl)
theorem dX6_copy_184 : decode cX6_copy 184 = .ok (.iaload, 1) := dk_46 (dk_at dksX6_copy_7 19 rfl rfl)
theorem dX6_copy_185 : decode cX6_copy 185 = .ok (.iastore, 1) := dk_79 (dk_at dksX6_copy_7 20 rfl rfl)
theorem dX6_copy_186 : decode cX6_copy 186 = .ok (.iinc 6 1, 3) := dk_132 6 1 (dk_at dksX6_copy_7 21 rfl rfl)
theorem dX6_copy_189 : decode cX6_copy 189 = .ok (.goto (-32), 3) := dk_167 255 224 (dk_at dksX6_copy_8 0 rfl rfl)
theorem dX6_copy_192 : decode cX6_copy 192 = .ok (.iconst 1, 1) := dk_4 (dk_at dksX6_copy_8 3 rfl rfl)
theorem dX6_copy_193 : decode cX6_copy 193 = .ok (.ireturn, 1) := dk_172 (dk_at dksX6_copy_8 4 rfl rfl)
abbrev cX6_write : ByteArray := prog_11_method_82_code
def yX6_write : MethodName := ⟨RX6, "write", "(I)I"⟩
def dkwX6_write_2 : List UInt8 := [162, 0, 21, 42, 27, 28, 42, 180, 0, 67, 28, 46, 182, 1, 25, 132, 2, 1, 167, 255, 223, 28, 172]
abbrev dktX6_write_2 : List UInt8 := dkwX6_write_2 ++ []
def dkwX6_write_1 : List UInt8 := [172, 42, 182, 0, 211, 3, 61, 28, 42, 180, 0, 92, 27, 46, 162, 0, 29, 28, 42, 180, 0, 107]
abbrev dktX6_write_1 : List UInt8 := dkwX6_write_1 ++ dktX6_write_2
def dkwX6_write_0 : List UInt8 := [27, 184, 0, 158, 154, 0, 6, 16, 254, 172, 42, 180, 0, 85, 27, 51, 154, 0, 9, 42, 4, 182, 0, 161]
abbrev dktX6_write_0 : List UInt8 := dkwX6_write_0 ++ dktX6_write_1
theorem dksX6_write_0 : cX6_write.data.toList.drop 0 = dktX6_write_0 := by decide +kernel
theorem dksX6_write_1 : cX6_write.data.toList.drop 24 = dktX6_write_1 := dk_seg dksX6_write_0 24 rfl rfl
theorem dksX6_write_2 : cX6_write.data.toList.drop 46 = dktX6_write_2 := dk_seg dksX6_write_1 22 rfl rfl
theorem dX6_write_0 : decode cX6_write 0 = .ok (.iload_n 1, 1) := dk_27 (dk_at dksX6_write_0 0 rfl rfl)
theorem dX6_write_1 : decode cX6_write 1 = .ok (.invokestatic 158, 3) := dk_184 0 158 (dk_at dksX6_write_0 1 rfl rfl)
theorem dX6_write_4 : decode cX6_write 4 = .ok (.ifCond .ne 6, 3) := dk_154 0 6 (dk_at dksX6_write_0 4 rfl rfl)
theorem dX6_write_7 : decode cX6_write 7 = .ok (.bipush (-2), 2) := dk_16 254 (dk_at dksX6_write_0 7 rfl rfl)
theorem dX6_write_9 : decode cX6_write 9 = .ok (.ireturn, 1) := dk_172 (dk_at dksX6_write_0 9 rfl rfl)
theorem dX6_write_10 : decode cX6_write 10 = .ok (.aload_n 0, 1) := dk_42 (dk_at dksX6_write_0 10 rfl rfl)
theorem dX6_write_11 : decode cX6_write 11 = .ok (.getfield 85, 3) := dk_180 0 85 (dk_at dksX6_write_0 11 rfl rfl)
theorem dX6_write_14 : decode cX6_write 14 = .ok (.iload_n 1, 1) := dk_27 (dk_at dksX6_write_0 14 rfl rfl)
theorem dX6_write_15 : decode cX6_write 15 = .ok (.baload, 1) := dk_51 (dk_at dksX6_write_0 15 rfl rfl)
theorem dX6_write_16 : decode cX6_write 16 = .ok (.ifCond .ne 9, 3) := dk_154 0 9 (dk_at dksX6_write_0 16 rfl rfl)
theorem dX6_write_19 : decode cX6_write 19 = .ok (.aload_n 0, 1) := dk_42 (dk_at dksX6_write_0 19 rfl rfl)
theorem dX6_write_20 : decode cX6_write 20 = .ok (.iconst 1, 1) := dk_4 (dk_at dksX6_write_0 20 rfl rfl)
theorem dX6_write_21 : decode cX6_write 21 = .ok (.invokevirtual 161, 3) := dk_182 0 161 (dk_at dksX6_write_0 21 rfl rfl)
theorem dX6_write_24 : decode cX6_write 24 = .ok (.ireturn, 1) := dk_172 (dk_at dksX6_write_1 0 rfl rfl)
theorem dX6_write_25 : decode cX6_write 25 = .ok (.aload_n 0, 1) := dk_42 (dk_at dksX6_write_1 1 rfl rfl)
theorem dX6_write_26 : decode cX6_write 26 = .ok (.invokevirtual 211, 3) := dk_182 0 211 (dk_at dksX6_write_1 2 rfl rfl)
theorem dX6_write_29 : decode cX6_write 29 = .ok (.iconst 0, 1) := dk_3 (dk_at dksX6_write_1 5 rfl rfl)
theorem dX6_write_30 : decode cX6_write 30 = .ok (.istore_n 2, 1) := dk_61 (dk_at dksX6_write_1 6 rfl rfl)
theorem dX6_write_31 : decode cX6_write 31 = .ok (.iload_n 2, 1) := dk_28 (dk_at dksX6_write_1 7 rfl rfl)
theorem dX6_write_32 : decode cX6_write 32 = .ok (.aload_n 0, 1) := dk_42 (dk_at dksX6_write_1 8 rfl rfl)
theorem dX6_write_33 : decode cX6_write 33 = .ok (.getfield 92, 3) := dk_180 0 92 (dk_at dksX6_write_1 9 rfl rfl)
theorem dX6_write_36 : decode cX6_write 36 = .ok (.iload_n 1, 1) := dk_27 (dk_at dksX6_write_1 12 rfl rfl)
theorem dX6_write_37 : decode cX6_write 37 = .ok (.iaload, 1) := dk_46 (dk_at dksX6_write_1 13 rfl rfl)
theorem dX6_write_38 : decode cX6_write 38 = .ok (.if_icmp .ge 29, 3) := dk_162 0 29 (dk_at dksX6_write_1 14 rfl rfl)
theorem dX6_write_41 : decode cX6_write 41 = .ok (.iload_n 2, 1) := dk_28 (dk_at dksX6_write_1 17 rfl rfl)
theorem dX6_write_42 : decode cX6_write 42 = .ok (.aload_n 0, 1) := dk_42 (dk_at dksX6_write_1 18 rfl rfl)
theorem dX6_write_43 : decode cX6_write 43 = .ok (.getfield 107, 3) := dk_180 0 107 (dk_at dksX6_write_1 19 rfl rfl)
theorem dX6_write_46 : decode cX6_write 46 = .ok (.if_icmp .ge 21, 3) := dk_162 0 21 (dk_at dksX6_write_2 0 rfl rfl)
theorem dX6_write_49 : decode cX6_write 49 = .ok (.aload_n 0, 1) := dk_42 (dk_at dksX6_write_2 3 rfl rfl)
theorem dX6_write_50 : decode cX6_write 50 = .ok (.iload_n 1, 1) := dk_27 (dk_at dksX6_write_2 4 rfl rfl)
theorem dX6_write_51 : decode cX6_write 51 = .ok (.iload_n 2, 1) := dk_28 (dk_at dksX6_write_2 5 rfl rfl)
theorem dX6_write_52 : decode cX6_write 52 = .ok (.aload_n 0, 1) := dk_42 (dk_at dksX6_write_2 6 rfl rfl)
theorem dX6_write_53 : decode cX6_write 53 = .ok (.getfield 67, 3) := dk_180 0 67 (dk_at dksX6_write_2 7 rfl rfl)
theorem dX6_write_56 : decode cX6_write 56 = .ok (.iload_n 2, 1) := dk_28 (dk_at dksX6_write_2 10 rfl rfl)
theorem dX6_write_57 : decode cX6_write 57 = .ok (.iaload, 1) := dk_46 (dk_at dksX6_write_2 11 rfl rfl)
theorem dX6_write_58 : decode cX6_write 58 = .ok (.invokevirtual 281, 3) := dk_182 1 25 (dk_at dksX6_write_2 12 rfl rfl)
theorem dX6_write_61 : decode cX6_write 61 = .ok (.iinc 2 1, 3) := dk_132 2 1 (dk_at dksX6_write_2 15 rfl rfl)
theorem dX6_write_64 : decode cX6_write 64 = .ok (.goto (-33), 3) := dk_167 255 223 (dk_at dksX6_write_2 18 rfl rfl)
theorem dX6_write_67 : decode cX6_write 67 = .ok (.iload_n 2, 1) := dk_28 (dk_at dksX6_write_2 21 rfl rfl)
theorem dX6_write_68 : decode cX6_write 68 = .ok (.ireturn, 1) := dk_172 (dk_at dksX6_write_2 22 rfl rfl)
abbrev cX6_count : ByteArray := prog_11_method_84_code
def yX6_count : MethodName := ⟨RX6, "count", "(I)I"⟩
def dkwX6_count_3 : List UInt8 := [172, 42, 180, 1, 18, 172, 16, 254, 172]
abbrev dktX6_count_3 : List UInt8 := dkwX6_count_3 ++ []
def dkwX6_count_2 : List UInt8 := [42, 27, 182, 1, 30, 172, 42, 180, 0, 7, 27, 4, 100, 46, 172, 42, 180, 0, 243, 172, 42, 180, 0, 255]
abbrev dktX6_count_2 : List UInt8 := dkwX6_count_2 ++ dktX6_count_3
def dkwX6_count_1 : List UInt8 := [170, 0, 0, 0, 0, 0, 81, 0, 0, 0, 0, 0, 0, 0, 8, 0, 0, 0, 51, 0, 0, 0, 57, 0, 0, 0, 57, 0, 0, 0, 51, 0, 0, 0, 66, 0, 0, 0, 71, 0, 0, 0, 51, 0, 0, 0, 51, 0, 0, 0, 76]
abbrev dktX6_count_1 : List UInt8 := dkwX6_count_1 ++ dktX6_count_2
def dkwX6_count_0 : List UInt8 := [27]
abbrev dktX6_count_0 : List UInt8 := dkwX6_count_0 ++ dktX6_count_1
theorem dksX6_count_0 : cX6_count.data.toList.drop 0 = dktX6_count_0 := by decide +kernel
theorem dksX6_count_1 : cX6_count.data.toList.drop 1 = dktX6_count_1 := dk_seg dksX6_count_0 1 rfl rfl
theorem dksX6_count_2 : cX6_count.data.toList.drop 52 = dktX6_count_2 := dk_seg dksX6_count_1 51 rfl rfl
theorem dksX6_count_3 : cX6_count.data.toList.drop 76 = dktX6_count_3 := dk_seg dksX6_count_2 24 rfl rfl
theorem dX6_count_0 : decode cX6_count 0 = .ok (.iload_n 1, 1) := dk_27 (dk_at dksX6_count_0 0 rfl rfl)
theorem dX6_count_1 : decode cX6_count 1 = .ok (.tableswitch 81 0 8 #[51, 57, 57, 51, 66, 71, 51, 51, 76], 51) := by decide +kernel
theorem dX6_count_52 : decode cX6_count 52 = .ok (.aload_n 0, 1) := dk_42 (dk_at dksX6_count_2 0 rfl rfl)
theorem dX6_count_53 : decode cX6_count 53 = .ok (.iload_n 1, 1) := dk_27 (dk_at dksX6_count_2 1 rfl rfl)
theorem dX6_count_54 : decode cX6_count 54 = .ok (.invokevirtual 286, 3) := dk_182 1 30 (dk_at dksX6_count_2 2 rfl rfl)
theorem dX6_count_57 : decode cX6_count 57 = .ok (.ireturn, 1) := dk_172 (dk_at dksX6_count_2 5 rfl rfl)
theorem dX6_count_58 : decode cX6_count 58 = .ok (.aload_n 0, 1) := dk_42 (dk_at dksX6_count_2 6 rfl rfl)
theorem dX6_count_59 : decode cX6_count 59 = .ok (.getfield 7, 3) := dk_180 0 7 (dk_at dksX6_count_2 7 rfl rfl)
theorem dX6_count_62 : decode cX6_count 62 = .ok (.iload_n 1, 1) := dk_27 (dk_at dksX6_count_2 10 rfl rfl)
theorem dX6_count_63 : decode cX6_count 63 = .ok (.iconst 1, 1) := dk_4 (dk_at dksX6_count_2 11 rfl rfl)
theorem dX6_count_64 : decode cX6_count 64 = .ok (.isub, 1) := dk_100 (dk_at dksX6_count_2 12 rfl rfl)
theorem dX6_count_65 : decode cX6_count 65 = .ok (.iaload, 1) := dk_46 (dk_at dksX6_count_2 13 rfl rfl)
theorem dX6_count_66 : decode cX6_count 66 = .ok (.ireturn, 1) := dk_172 (dk_at dksX6_count_2 14 rfl rfl)
theorem dX6_count_67 : decode cX6_count 67 = .ok (.aload_n 0, 1) := dk_42 (dk_at dksX6_count_2 15 rfl rfl)
theorem dX6_count_68 : decode cX6_count 68 = .ok (.getfield 243, 3) := dk_180 0 243 (dk_at dksX6_count_2 16 rfl rfl)
theorem dX6_count_71 : decode cX6_count 71 = .ok (.ireturn, 1) := dk_172 (dk_at dksX6_count_2 19 rfl rfl)
theorem dX6_count_72 : decode cX6_count 72 = .ok (.aload_n 0, 1) := dk_42 (dk_at dksX6_count_2 20 rfl rfl)
theorem dX6_count_73 : decode cX6_count 73 = .ok (.getfield 255, 3) := dk_180 0 255 (dk_at dksX6_count_2 21 rfl rfl)
theorem dX6_count_76 : decode cX6_count 76 = .ok (.ireturn, 1) := dk_172 (dk_at dksX6_count_3 0 rfl rfl)
theorem dX6_count_77 : decode cX6_count 77 = .ok (.aload_n 0, 1) := dk_42 (dk_at dksX6_count_3 1 rfl rfl)
theorem dX6_count_78 : decode cX6_count 78 = .ok (.getfield 274, 3) := dk_180 1 18 (dk_at dksX6_count_3 2 rfl rfl)
theorem dX6_count_81 : decode cX6_count 81 = .ok (.ireturn, 1) := dk_172 (dk_at dksX6_count_3 5 rfl rfl)
theorem dX6_count_82 : decode cX6_count 82 = .ok (.bipush (-2), 2) := dk_16 254 (dk_at dksX6_count_3 6 rfl rfl)
theorem dX6_count_84 : decode cX6_count 84 = .ok (.ireturn, 1) := dk_172 (dk_at dksX6_count_3 8 rfl rfl)
abbrev cX6_sumOf : ByteArray := prog_11_method_83_code
def yX6_sumOf : MethodName := ⟨RX6, "sumOf", "(I)I"⟩
def dkwX6_sumOf_3 : List UInt8 := [29, 172]
abbrev dktX6_sumOf_3 : List UInt8 := dkwX6_sumOf_3 ++ []
def dkwX6_sumOf_2 : List UInt8 := [160, 0, 10, 42, 180, 0, 123, 167, 0, 18, 27, 16, 6, 160, 0, 11, 42, 28, 182, 0, 195, 167, 0, 4]
abbrev dktX6_sumOf_2 : List UInt8 := dkwX6_sumOf_2 ++ dktX6_sumOf_3
def dkwX6_sumOf_1 : List UInt8 := [46, 96, 62, 132, 4, 1, 167, 255, 236, 27, 154, 0, 10, 42, 180, 0, 107, 167, 0, 30, 27, 6]
abbrev dktX6_sumOf_1 : List UInt8 := dkwX6_sumOf_1 ++ dktX6_sumOf_2
def dkwX6_sumOf_0 : List UInt8 := [42, 182, 1, 2, 61, 3, 62, 3, 54, 4, 21, 4, 16, 8, 162, 0, 19, 29, 42, 180, 0, 52, 21, 4]
abbrev dktX6_sumOf_0 : List UInt8 := dkwX6_sumOf_0 ++ dktX6_sumOf_1
theorem dksX6_sumOf_0 : cX6_sumOf.data.toList.drop 0 = dktX6_sumOf_0 := by decide +kernel
theorem dksX6_sumOf_1 : cX6_sumOf.data.toList.drop 24 = dktX6_sumOf_1 := dk_seg dksX6_sumOf_0 24 rfl rfl
theorem dksX6_sumOf_2 : cX6_sumOf.data.toList.drop 46 = dktX6_sumOf_2 := dk_seg dksX6_sumOf_1 22 rfl rfl
theorem dksX6_sumOf_3 : cX6_sumOf.data.toList.drop 70 = dktX6_sumOf_3 := dk_seg dksX6_sumOf_2 24 rfl rfl
theorem dX6_sumOf_0 : decode cX6_sumOf 0 = .ok (.aload_n 0, 1) := dk_42 (dk_at dksX6_sumOf_0 0 rfl rfl)
theorem dX6_sumOf_1 : decode cX6_sumOf 1 = .ok (.invokevirtual 258, 3) := dk_182 1 2 (dk_at dksX6_sumOf_0 1 rfl rfl)
theorem dX6_sumOf_4 : decode cX6_sumOf 4 = .ok (.istore_n 2, 1) := dk_61 (dk_at dksX6_sumOf_0 4 rfl rfl)
theorem dX6_sumOf_5 : decode cX6_sumOf 5 = .ok (.iconst 0, 1) := dk_3 (dk_at dksX6_sumOf_0 5 rfl rfl)
theorem dX6_sumOf_6 : decode cX6_sumOf 6 = .ok (.istore_n 3, 1) := dk_62 (dk_at dksX6_sumOf_0 6 rfl rfl)
theorem dX6_sumOf_7 : decode cX6_sumOf 7 = .ok (.iconst 0, 1) := dk_3 (dk_at dksX6_sumOf_0 7 rfl rfl)
theorem dX6_sumOf_8 : decode cX6_sumOf 8 = .ok (.istore 4, 2) := dk_54 4 (dk_at dksX6_sumOf_0 8 rfl rfl)
theorem dX6_sumOf_10 : decode cX6_sumOf 10 = .ok (.iload 4, 2) := dk_21 4 (dk_at dksX6_sumOf_0 10 rfl rfl)
theorem dX6_sumOf_12 : decode cX6_sumOf 12 = .ok (.bipush 8, 2) := dk_16 8 (dk_at dksX6_sumOf_0 12 rfl rfl)
theorem dX6_sumOf_14 : decode cX6_sumOf 14 = .ok (.if_icmp .ge 19, 3) := dk_162 0 19 (dk_at dksX6_sumOf_0 14 rfl rfl)
theorem dX6_sumOf_17 : decode cX6_sumOf 17 = .ok (.iload_n 3, 1) := dk_29 (dk_at dksX6_sumOf_0 17 rfl rfl)
theorem dX6_sumOf_18 : decode cX6_sumOf 18 = .ok (.aload_n 0, 1) := dk_42 (dk_at dksX6_sumOf_0 18 rfl rfl)
theorem dX6_sumOf_19 : decode cX6_sumOf 19 = .ok (.getfield 52, 3) := dk_180 0 52 (dk_at dksX6_sumOf_0 19 rfl rfl)
theorem dX6_sumOf_22 : decode cX6_sumOf 22 = .ok (.iload 4, 2) := dk_21 4 (dk_at dksX6_sumOf_0 22 rfl rfl)
theorem dX6_sumOf_24 : decode cX6_sumOf 24 = .ok (.iaload, 1) := dk_46 (dk_at dksX6_sumOf_1 0 rfl rfl)
theorem dX6_sumOf_25 : decode cX6_sumOf 25 = .ok (.iadd, 1) := dk_96 (dk_at dksX6_sumOf_1 1 rfl rfl)
theorem dX6_sumOf_26 : decode cX6_sumOf 26 = .ok (.istore_n 3, 1) := dk_62 (dk_at dksX6_sumOf_1 2 rfl rfl)
theorem dX6_sumOf_27 : decode cX6_sumOf 27 = .ok (.iinc 4 1, 3) := dk_132 4 1 (dk_at dksX6_sumOf_1 3 rfl rfl)
theorem dX6_sumOf_30 : decode cX6_sumOf 30 = .ok (.goto (-20), 3) := dk_167 255 236 (dk_at dksX6_sumOf_1 6 rfl rfl)
theorem dX6_sumOf_33 : decode cX6_sumOf 33 = .ok (.iload_n 1, 1) := dk_27 (dk_at dksX6_sumOf_1 9 rfl rfl)
theorem dX6_sumOf_34 : decode cX6_sumOf 34 = .ok (.ifCond .ne 10, 3) := dk_154 0 10 (dk_at dksX6_sumOf_1 10 rfl rfl)
theorem dX6_sumOf_37 : decode cX6_sumOf 37 = .ok (.aload_n 0, 1) := dk_42 (dk_at dksX6_sumOf_1 13 rfl rfl)
theorem dX6_sumOf_38 : decode cX6_sumOf 38 = .ok (.getfield 107, 3) := dk_180 0 107 (dk_at dksX6_sumOf_1 14 rfl rfl)
theorem dX6_sumOf_41 : decode cX6_sumOf 41 = .ok (.goto 30, 3) := dk_167 0 30 (dk_at dksX6_sumOf_1 17 rfl rfl)
theorem dX6_sumOf_44 : decode cX6_sumOf 44 = .ok (.iload_n 1, 1) := dk_27 (dk_at dksX6_sumOf_1 20 rfl rfl)
theorem dX6_sumOf_45 : decode cX6_sumOf 45 = .ok (.iconst 3, 1) := dk_6 (dk_at dksX6_sumOf_1 21 rfl rfl)
theorem dX6_sumOf_46 : decode cX6_sumOf 46 = .ok (.if_icmp .ne 10, 3) := dk_160 0 10 (dk_at dksX6_sumOf_2 0 rfl rfl)
theorem dX6_sumOf_49 : decode cX6_sumOf 49 = .ok (.aload_n 0, 1) := dk_42 (dk_at dksX6_sumOf_2 3 rfl rfl)
theorem dX6_sumOf_50 : decode cX6_sumOf 50 = .ok (.getfield 123, 3) := dk_180 0 123 (dk_at dksX6_sumOf_2 4 rfl rfl)
theorem dX6_sumOf_53 : decode cX6_sumOf 53 = .ok (.goto 18, 3) := dk_167 0 18 (dk_at dksX6_sumOf_2 7 rfl rfl)
theorem dX6_sumOf_56 : decode cX6_sumOf 56 = .ok (.iload_n 1, 1) := dk_27 (dk_at dksX6_sumOf_2 10 rfl rfl)
theorem dX6_sumOf_57 : decode cX6_sumOf 57 = .ok (.bipush 6, 2) := dk_16 6 (dk_at dksX6_sumOf_2 11 rfl rfl)
theorem dX6_sumOf_59 : decode cX6_sumOf 59 = .ok (.if_icmp .ne 11, 3) := dk_160 0 11 (dk_at dksX6_sumOf_2 13 rfl rfl)
theorem dX6_sumOf_62 : decode cX6_sumOf 62 = .ok (.aload_n 0, 1) := dk_42 (dk_at dksX6_sumOf_2 16 rfl rfl)
theorem dX6_sumOf_63 : decode cX6_sumOf 63 = .ok (.iload_n 2, 1) := dk_28 (dk_at dksX6_sumOf_2 17 rfl rfl)
theorem dX6_sumOf_64 : decode cX6_sumOf 64 = .ok (.invokevirtual 195, 3) := dk_182 0 195 (dk_at dksX6_sumOf_2 18 rfl rfl)
theorem dX6_sumOf_67 : decode cX6_sumOf 67 = .ok (.goto 4, 3) := dk_167 0 4 (dk_at dksX6_sumOf_2 21 rfl rfl)
theorem dX6_sumOf_70 : decode cX6_sumOf 70 = .ok (.iload_n 3, 1) := dk_29 (dk_at dksX6_sumOf_3 0 rfl rfl)
theorem dX6_sumOf_71 : decode cX6_sumOf 71 = .ok (.ireturn, 1) := dk_172 (dk_at dksX6_sumOf_3 1 rfl rfl)
abbrev cX6_digest : ByteArray := prog_11_method_85_code
def yX6_digest : MethodName := ⟨RX6, "digest", "()J"⟩
def dkwX6_digest_15 : List UInt8 := [42, 5, 4, 182, 1, 15, 97, 173]
abbrev dktX6_digest_15 : List UInt8 := dkwX6_digest_15 ++ []
def dkwX6_digest_14 : List UInt8 := [182, 1, 8, 133, 97, 64, 20, 1, 35, 31, 105, 42, 5, 3, 182, 1, 15, 97, 64, 20, 1, 35, 31, 105]
abbrev dktX6_digest_14 : List UInt8 := dkwX6_digest_14 ++ dktX6_digest_15
def dkwX6_digest_13 : List UInt8 := [133, 97, 64, 20, 1, 35, 31, 105, 42, 4, 182, 0, 252, 133, 97, 64, 20, 1, 35, 31, 105, 42]
abbrev dktX6_digest_13 : List UInt8 := dkwX6_digest_13 ++ dktX6_digest_14
def dkwX6_digest_12 : List UInt8 := [42, 29, 182, 0, 223, 133, 97, 64, 132, 3, 1, 167, 255, 235, 20, 1, 35, 31, 105, 42, 3, 182, 0, 252]
abbrev dktX6_digest_12 : List UInt8 := dkwX6_digest_12 ++ dktX6_digest_13
def dkwX6_digest_11 : List UInt8 := [20, 1, 35, 31, 105, 42, 180, 0, 208, 133, 97, 64, 3, 62, 29, 6, 162, 0, 22, 20, 1, 35, 31, 105]
abbrev dktX6_digest_11 : List UInt8 := dkwX6_digest_11 ++ dktX6_digest_12
def dkwX6_digest_10 : List UInt8 := [132, 4, 1, 167, 255, 232, 132, 3, 1, 167, 255, 218, 20, 1, 35, 31, 105, 42, 180, 0, 205, 133, 97, 64]
abbrev dktX6_digest_10 : List UInt8 := dkwX6_digest_10 ++ dktX6_digest_11
def dkwX6_digest_9 : List UInt8 := [54, 4, 21, 4, 6, 162, 0, 24, 20, 1, 35, 31, 105, 42, 29, 21, 4, 182, 0, 149, 133, 97, 64]
abbrev dktX6_digest_9 : List UInt8 := dkwX6_digest_9 ++ dktX6_digest_10
def dkwX6_digest_8 : List UInt8 := [42, 4, 29, 120, 182, 1, 5, 133, 97, 64, 132, 3, 1, 167, 255, 117, 3, 62, 29, 7, 162, 0, 39, 3]
abbrev dktX6_digest_8 : List UInt8 := dkwX6_digest_8 ++ dktX6_digest_9
def dkwX6_digest_7 : List UInt8 := [182, 0, 239, 97, 64, 20, 1, 35, 31, 105, 42, 180, 0, 67, 29, 46, 133, 97, 64, 20, 1, 35, 31, 105]
abbrev dktX6_digest_7 : List UInt8 := dkwX6_digest_7 ++ dktX6_digest_8
def dkwX6_digest_6 : List UInt8 := [20, 1, 35, 31, 105, 42, 29, 5, 3, 182, 0, 239, 97, 64, 20, 1, 35, 31, 105, 42, 29, 5, 4]
abbrev dktX6_digest_6 : List UInt8 := dkwX6_digest_6 ++ dktX6_digest_7
def dkwX6_digest_5 : List UInt8 := [42, 29, 5, 182, 0, 185, 133, 97, 64, 20, 1, 35, 31, 105, 42, 29, 5, 182, 0, 226, 133, 97, 64]
abbrev dktX6_digest_5 : List UInt8 := dkwX6_digest_5 ++ dktX6_digest_6
def dkwX6_digest_4 : List UInt8 := [132, 4, 1, 167, 255, 232, 20, 1, 35, 31, 105, 42, 29, 182, 0, 179, 133, 97, 64, 20, 1, 35, 31, 105]
abbrev dktX6_digest_4 : List UInt8 := dkwX6_digest_4 ++ dktX6_digest_5
def dkwX6_digest_3 : List UInt8 := [54, 4, 21, 4, 8, 162, 0, 24, 20, 1, 35, 31, 105, 42, 29, 21, 4, 182, 0, 146, 133, 97, 64]
abbrev dktX6_digest_3 : List UInt8 := dkwX6_digest_3 ++ dktX6_digest_4
def dkwX6_digest_2 : List UInt8 := [105, 42, 4, 182, 0, 136, 133, 97, 64, 42, 182, 0, 211, 3, 62, 29, 42, 180, 0, 107, 162, 0, 137, 3]
abbrev dktX6_digest_2 : List UInt8 := dkwX6_digest_2 ++ dktX6_digest_3
def dkwX6_digest_1 : List UInt8 := [64, 132, 3, 1, 167, 255, 234, 20, 1, 35, 31, 105, 42, 3, 182, 0, 136, 133, 97, 64, 20, 1, 35, 31]
abbrev dktX6_digest_1 : List UInt8 := dkwX6_digest_1 ++ dktX6_digest_2
def dkwX6_digest_0 : List UInt8 := [20, 1, 33, 64, 3, 62, 29, 16, 8, 162, 0, 22, 20, 1, 35, 31, 105, 42, 29, 182, 1, 37, 133, 97]
abbrev dktX6_digest_0 : List UInt8 := dkwX6_digest_0 ++ dktX6_digest_1
theorem dksX6_digest_0 : cX6_digest.data.toList.drop 0 = dktX6_digest_0 := by decide +kernel
theorem dksX6_digest_1 : cX6_digest.data.toList.drop 24 = dktX6_digest_1 := dk_seg dksX6_digest_0 24 rfl rfl
theorem dksX6_digest_2 : cX6_digest.data.toList.drop 48 = dktX6_digest_2 := dk_seg dksX6_digest_1 24 rfl rfl
theorem dksX6_digest_3 : cX6_digest.data.toList.drop 72 = dktX6_digest_3 := dk_seg dksX6_digest_2 24 rfl rfl
theorem dksX6_digest_4 : cX6_digest.data.toList.drop 95 = dktX6_digest_4 := dk_seg dksX6_digest_3 23 rfl rfl
theorem dksX6_digest_5 : cX6_digest.data.toList.drop 119 = dktX6_digest_5 := dk_seg dksX6_digest_4 24 rfl rfl
theorem dksX6_digest_6 : cX6_digest.data.toList.drop 142 = dktX6_digest_6 := dk_seg dksX6_digest_5 23 rfl rfl
theorem dksX6_digest_7 : cX6_digest.data.toList.drop 165 = dktX6_digest_7 := dk_seg dksX6_digest_6 23 rfl rfl
theorem dksX6_digest_8 : cX6_digest.data.toList.drop 189 = dktX6_digest_8 := dk_seg dksX6_digest_7 24 rfl rfl
theorem dksX6_digest_9 : cX6_digest.data.toList.drop 213 = dktX6_digest_9 := dk_seg dksX6_digest_8 24 rfl rfl
theorem dksX6_digest_10 : cX6_digest.data.toList.drop 236 = dktX6_digest_10 := dk_seg dksX6_digest_9 23 rfl rfl
theorem dksX6_digest_11 : cX6_digest.data.toList.drop 260 = dktX6_digest_11 := dk_seg dksX6_digest_10 24 rfl rfl
theorem dksX6_digest_12 : cX6_digest.data.toList.drop 284 = dktX6_digest_12 := dk_seg dksX6_digest_11 24 rfl rfl
theorem dksX6_digest_13 : cX6_digest.data.toList.drop 308 = dktX6_digest_13 := dk_seg dksX6_digest_12 24 rfl rfl
theorem dksX6_digest_14 : cX6_digest.data.toList.drop 330 = dktX6_digest_14 := dk_seg dksX6_digest_13 22 rfl rfl
theorem dksX6_digest_15 : cX6_digest.data.toList.drop 354 = dktX6_digest_15 := dk_seg dksX6_digest_14 24 rfl rfl
theorem dX6_digest_0 : decode cX6_digest 0 = .ok (.ldc2_w 289, 3) := dk_20 1 33 (dk_at dksX6_digest_0 0 rfl rfl)
theorem dX6_digest_3 : decode cX6_digest 3 = .ok (.lstore_n 1, 1) := dk_64 (dk_at dksX6_digest_0 3 rfl rfl)
theorem dX6_digest_4 : decode cX6_digest 4 = .ok (.iconst 0, 1) := dk_3 (dk_at dksX6_digest_0 4 rfl rfl)
theorem dX6_digest_5 : decode cX6_digest 5 = .ok (.istore_n 3, 1) := dk_62 (dk_at dksX6_digest_0 5 rfl rfl)
theorem dX6_digest_6 : decode cX6_digest 6 = .ok (.iload_n 3, 1) := dk_29 (dk_at dksX6_digest_0 6 rfl rfl)
theorem dX6_digest_7 : decode cX6_digest 7 = .ok (.bipush 8, 2) := dk_16 8 (dk_at dksX6_digest_0 7 rfl rfl)
theorem dX6_digest_9 : decode cX6_digest 9 = .ok (.if_icmp .ge 22, 3) := dk_162 0 22 (dk_at dksX6_digest_0 9 rfl rfl)
theorem dX6_digest_12 : decode cX6_digest 12 = .ok (.ldc2_w 291, 3) := dk_20 1 35 (dk_at dksX6_digest_0 12 rfl rfl)
theorem dX6_digest_15 : decode cX6_digest 15 = .ok (.lload_n 1, 1) := dk_31 (dk_at dksX6_digest_0 15 rfl rfl)
theorem dX6_digest_16 : decode cX6_digest 16 = .ok (.lmul, 1) := dk_105 (dk_at dksX6_digest_0 16 rfl rfl)
theorem dX6_digest_17 : decode cX6_digest 17 = .ok (.aload_n 0, 1) := dk_42 (dk_at dksX6_digest_0 17 rfl rfl)
theorem dX6_digest_18 : decode cX6_digest 18 = .ok (.iload_n 3, 1) := dk_29 (dk_at dksX6_digest_0 18 rfl rfl)
theorem dX6_digest_19 : decode cX6_digest 19 = .ok (.invokevirtual 293, 3) := dk_182 1 37 (dk_at dksX6_digest_0 19 rfl rfl)
theorem dX6_digest_22 : decode cX6_digest 22 = .ok (.i2l, 1) := dk_133 (dk_at dksX6_digest_0 22 rfl rfl)
theorem dX6_digest_23 : decode cX6_digest 23 = .ok (.ladd, 1) := dk_97 (dk_at dksX6_digest_0 23 rfl rfl)
theorem dX6_digest_24 : decode cX6_digest 24 = .ok (.lstore_n 1, 1) := dk_64 (dk_at dksX6_digest_1 0 rfl rfl)
theorem dX6_digest_25 : decode cX6_digest 25 = .ok (.iinc 3 1, 3) := dk_132 3 1 (dk_at dksX6_digest_1 1 rfl rfl)
theorem dX6_digest_28 : decode cX6_digest 28 = .ok (.goto (-22), 3) := dk_167 255 234 (dk_at dksX6_digest_1 4 rfl rfl)
theorem dX6_digest_31 : decode cX6_digest 31 = .ok (.ldc2_w 291, 3) := dk_20 1 35 (dk_at dksX6_digest_1 7 rfl rfl)
theorem dX6_digest_34 : decode cX6_digest 34 = .ok (.lload_n 1, 1) := dk_31 (dk_at dksX6_digest_1 10 rfl rfl)
theorem dX6_digest_35 : decode cX6_digest 35 = .ok (.lmul, 1) := dk_105 (dk_at dksX6_digest_1 11 rfl rfl)
theorem dX6_digest_36 : decode cX6_digest 36 = .ok (.aload_n 0, 1) := dk_42 (dk_at dksX6_digest_1 12 rfl rfl)
theorem dX6_digest_37 : decode cX6_digest 37 = .ok (.iconst 0, 1) := dk_3 (dk_at dksX6_digest_1 13 rfl rfl)
theorem dX6_digest_38 : decode cX6_digest 38 = .ok (.invokevirtual 136, 3) := dk_182 0 136 (dk_at dksX6_digest_1 14 rfl rfl)
theorem dX6_digest_41 : decode cX6_digest 41 = .ok (.i2l, 1) := dk_133 (dk_at dksX6_digest_1 17 rfl rfl)
theorem dX6_digest_42 : decode cX6_digest 42 = .ok (.ladd, 1) := dk_97 (dk_at dksX6_digest_1 18 rfl rfl)
theorem dX6_digest_43 : decode cX6_digest 43 = .ok (.lstore_n 1, 1) := dk_64 (dk_at dksX6_digest_1 19 rfl rfl)
theorem dX6_digest_44 : decode cX6_digest 44 = .ok (.ldc2_w 291, 3) := dk_20 1 35 (dk_at dksX6_digest_1 20 rfl rfl)
theorem dX6_digest_47 : decode cX6_digest 47 = .ok (.lload_n 1, 1) := dk_31 (dk_at dksX6_digest_1 23 rfl rfl)
theorem dX6_digest_48 : decode cX6_digest 48 = .ok (.lmul, 1) := dk_105 (dk_at dksX6_digest_2 0 rfl rfl)
theorem dX6_digest_49 : decode cX6_digest 49 = .ok (.aload_n 0, 1) := dk_42 (dk_at dksX6_digest_2 1 rfl rfl)
theorem dX6_digest_50 : decode cX6_digest 50 = .ok (.iconst 1, 1) := dk_4 (dk_at dksX6_digest_2 2 rfl rfl)
theorem dX6_digest_51 : decode cX6_digest 51 = .ok (.invokevirtual 136, 3) := dk_182 0 136 (dk_at dksX6_digest_2 3 rfl rfl)
theorem dX6_digest_54 : decode cX6_digest 54 = .ok (.i2l, 1) := dk_133 (dk_at dksX6_digest_2 6 rfl rfl)
theorem dX6_digest_55 : decode cX6_digest 55 = .ok (.ladd, 1) := dk_97 (dk_at dksX6_digest_2 7 rfl rfl)
theorem dX6_digest_56 : decode cX6_digest 56 = .ok (.lstore_n 1, 1) := dk_64 (dk_at dksX6_digest_2 8 rfl rfl)
theorem dX6_digest_57 : decode cX6_digest 57 = .ok (.aload_n 0, 1) := dk_42 (dk_at dksX6_digest_2 9 rfl rfl)
theorem dX6_digest_58 : decode cX6_digest 58 = .ok (.invokevirtual 211, 3) := dk_182 0 211 (dk_at dksX6_digest_2 10 rfl rfl)
theorem dX6_digest_61 : decode cX6_digest 61 = .ok (.iconst 0, 1) := dk_3 (dk_at dksX6_digest_2 13 rfl rfl)
theorem dX6_digest_62 : decode cX6_digest 62 = .ok (.istore_n 3, 1) := dk_62 (dk_at dksX6_digest_2 14 rfl rfl)
theorem dX6_digest_63 : decode cX6_digest 63 = .ok (.iload_n 3, 1) := dk_29 (dk_at dksX6_digest_2 15 rfl rfl)
theorem dX6_digest_64 : decode cX6_digest 64 = .ok (.aload_n 0, 1) := dk_42 (dk_at dksX6_digest_2 16 rfl rfl)
theorem dX6_digest_65 : decode cX6_digest 65 = .ok (.getfield 107, 3) := dk_180 0 107 (dk_at dksX6_digest_2 17 rfl rfl)
theorem dX6_digest_68 : decode cX6_digest 68 = .ok (.if_icmp .ge 137, 3) := dk_162 0 137 (dk_at dksX6_digest_2 20 rfl rfl)
theorem dX6_digest_71 : decode cX6_digest 71 = .ok (.iconst 0, 1) := dk_3 (dk_at dksX6_digest_2 23 rfl rfl)
theorem dX6_digest_72 : decode cX6_digest 72 = .ok (.istore 4, 2) := dk_54 4 (dk_at dksX6_digest_3 0 rfl rfl)
theorem dX6_digest_74 : decode cX6_digest 74 = .ok (.iload 4, 2) := dk_21 4 (dk_at dksX6_digest_3 2 rfl rfl)
theorem dX6_digest_76 : decode cX6_digest 76 = .ok (.iconst 5, 1) := dk_8 (dk_at dksX6_digest_3 4 rfl rfl)
theorem dX6_digest_77 : decode cX6_digest 77 = .ok (.if_icmp .ge 24, 3) := dk_162 0 24 (dk_at dksX6_digest_3 5 rfl rfl)
theorem dX6_digest_80 : decode cX6_digest 80 = .ok (.ldc2_w 291, 3) := dk_20 1 35 (dk_at dksX6_digest_3 8 rfl rfl)
theorem dX6_digest_83 : decode cX6_digest 83 = .ok (.lload_n 1, 1) := dk_31 (dk_at dksX6_digest_3 11 rfl rfl)
theorem dX6_digest_84 : decode cX6_digest 84 = .ok (.lmul, 1) := dk_105 (dk_at dksX6_digest_3 12 rfl rfl)
theorem dX6_digest_85 : decode cX6_digest 85 = .ok (.aload_n 0, 1) := dk_42 (dk_at dksX6_digest_3 13 rfl rfl)
theorem dX6_digest_86 : decode cX6_digest 86 = .ok (.iload_n 3, 1) := dk_29 (dk_at dksX6_digest_3 14 rfl rfl)
theorem dX6_digest_87 : decode cX6_digest 87 = .ok (.iload 4, 2) := dk_21 4 (dk_at dksX6_digest_3 15 rfl rfl)
theorem dX6_digest_89 : decode cX6_digest 89 = .ok (.invokevirtual 146, 3) := dk_182 0 146 (dk_at dksX6_digest_3 17 rfl rfl)
theorem dX6_digest_92 : decode cX6_digest 92 = .ok (.i2l, 1) := dk_133 (dk_at dksX6_digest_3 20 rfl rfl)
theorem dX6_digest_93 : decode cX6_digest 93 = .ok (.ladd, 1) := dk_97 (dk_at dksX6_digest_3 21 rfl rfl)
theorem dX6_digest_94 : decode cX6_digest 94 = .ok (.lstore_n 1, 1) := dk_64 (dk_at dksX6_digest_3 22 rfl rfl)
theorem dX6_digest_95 : decode cX6_digest 95 = .ok (.iinc 4 1, 3) := dk_132 4 1 (dk_at dksX6_digest_4 0 rfl rfl)
theorem dX6_digest_98 : decode cX6_digest 98 = .ok (.goto (-24), 3) := dk_167 255 232 (dk_at dksX6_digest_4 3 rfl rfl)
theorem dX6_digest_101 : decode cX6_digest 101 = .ok (.ldc2_w 291, 3) := dk_20 1 35 (dk_at dksX6_digest_4 6 rfl rfl)
theorem dX6_digest_104 : decode cX6_digest 104 = .ok (.lload_n 1, 1) := dk_31 (dk_at dksX6_digest_4 9 rfl rfl)
theorem dX6_digest_105 : decode cX6_digest 105 = .ok (.lmul, 1) := dk_105 (dk_at dksX6_digest_4 10 rfl rfl)
theorem dX6_digest_106 : decode cX6_digest 106 = .ok (.aload_n 0, 1) := dk_42 (dk_at dksX6_digest_4 11 rfl rfl)
theorem dX6_digest_107 : decode cX6_digest 107 = .ok (.iload_n 3, 1) := dk_29 (dk_at dksX6_digest_4 12 rfl rfl)
theorem dX6_digest_108 : decode cX6_digest 108 = .ok (.invokevirtual 179, 3) := dk_182 0 179 (dk_at dksX6_digest_4 13 rfl rfl)
theorem dX6_digest_111 : decode cX6_digest 111 = .ok (.i2l, 1) := dk_133 (dk_at dksX6_digest_4 16 rfl rfl)
theorem dX6_digest_112 : decode cX6_digest 112 = .ok (.ladd, 1) := dk_97 (dk_at dksX6_digest_4 17 rfl rfl)
theorem dX6_digest_113 : decode cX6_digest 113 = .ok (.lstore_n 1, 1) := dk_64 (dk_at dksX6_digest_4 18 rfl rfl)
theorem dX6_digest_114 : decode cX6_digest 114 = .ok (.ldc2_w 291, 3) := dk_20 1 35 (dk_at dksX6_digest_4 19 rfl rfl)
theorem dX6_digest_117 : decode cX6_digest 117 = .ok (.lload_n 1, 1) := dk_31 (dk_at dksX6_digest_4 22 rfl rfl)
theorem dX6_digest_118 : decode cX6_digest 118 = .ok (.lmul, 1) := dk_105 (dk_at dksX6_digest_4 23 rfl rfl)
theorem dX6_digest_119 : decode cX6_digest 119 = .ok (.aload_n 0, 1) := dk_42 (dk_at dksX6_digest_5 0 rfl rfl)
theorem dX6_digest_120 : decode cX6_digest 120 = .ok (.iload_n 3, 1) := dk_29 (dk_at dksX6_digest_5 1 rfl rfl)
theorem dX6_digest_121 : decode cX6_digest 121 = .ok (.iconst 2, 1) := dk_5 (dk_at dksX6_digest_5 2 rfl rfl)
theorem dX6_digest_122 : decode cX6_digest 122 = .ok (.invokevirtual 185, 3) := dk_182 0 185 (dk_at dksX6_digest_5 3 rfl rfl)
theorem dX6_digest_125 : decode cX6_digest 125 = .ok (.i2l, 1) := dk_133 (dk_at dksX6_digest_5 6 rfl rfl)
theorem dX6_digest_126 : decode cX6_digest 126 = .ok (.ladd, 1) := dk_97 (dk_at dksX6_digest_5 7 rfl rfl)
theorem dX6_digest_127 : decode cX6_digest 127 = .ok (.lstore_n 1, 1) := dk_64 (dk_at dksX6_digest_5 8 rfl rfl)
theorem dX6_digest_128 : decode cX6_digest 128 = .ok (.ldc2_w 291, 3) := dk_20 1 35 (dk_at dksX6_digest_5 9 rfl rfl)
theorem dX6_digest_131 : decode cX6_digest 131 = .ok (.lload_n 1, 1) := dk_31 (dk_at dksX6_digest_5 12 rfl rfl)
theorem dX6_digest_132 : decode cX6_digest 132 = .ok (.lmul, 1) := dk_105 (dk_at dksX6_digest_5 13 rfl rfl)
theorem dX6_digest_133 : decode cX6_digest 133 = .ok (.aload_n 0, 1) := dk_42 (dk_at dksX6_digest_5 14 rfl rfl)
theorem dX6_digest_134 : decode cX6_digest 134 = .ok (.iload_n 3, 1) := dk_29 (dk_at dksX6_digest_5 15 rfl rfl)
theorem dX6_digest_135 : decode cX6_digest 135 = .ok (.iconst 2, 1) := dk_5 (dk_at dksX6_digest_5 16 rfl rfl)
theorem dX6_digest_136 : decode cX6_digest 136 = .ok (.invokevirtual 226, 3) := dk_182 0 226 (dk_at dksX6_digest_5 17 rfl rfl)
theorem dX6_digest_139 : decode cX6_digest 139 = .ok (.i2l, 1) := dk_133 (dk_at dksX6_digest_5 20 rfl rfl)
theorem dX6_digest_140 : decode cX6_digest 140 = .ok (.ladd, 1) := dk_97 (dk_at dksX6_digest_5 21 rfl rfl)
theorem dX6_digest_141 : decode cX6_digest 141 = .ok (.lstore_n 1, 1) := dk_64 (dk_at dksX6_digest_5 22 rfl rfl)
theorem dX6_digest_142 : decode cX6_digest 142 = .ok (.ldc2_w 291, 3) := dk_20 1 35 (dk_at dksX6_digest_6 0 rfl rfl)
theorem dX6_digest_145 : decode cX6_digest 145 = .ok (.lload_n 1, 1) := dk_31 (dk_at dksX6_digest_6 3 rfl rfl)
theorem dX6_digest_146 : decode cX6_digest 146 = .ok (.lmul, 1) := dk_105 (dk_at dksX6_digest_6 4 rfl rfl)
theorem dX6_digest_147 : decode cX6_digest 147 = .ok (.aload_n 0, 1) := dk_42 (dk_at dksX6_digest_6 5 rfl rfl)
theorem dX6_digest_148 : decode cX6_digest 148 = .ok (.iload_n 3, 1) := dk_29 (dk_at dksX6_digest_6 6 rfl rfl)
theorem dX6_digest_149 : decode cX6_digest 149 = .ok (.iconst 2, 1) := dk_5 (dk_at dksX6_digest_6 7 rfl rfl)
theorem dX6_digest_150 : decode cX6_digest 150 = .ok (.iconst 0, 1) := dk_3 (dk_at dksX6_digest_6 8 rfl rfl)
theorem dX6_digest_151 : decode cX6_digest 151 = .ok (.invokevirtual 239, 3) := dk_182 0 239 (dk_at dksX6_digest_6 9 rfl rfl)
theorem dX6_digest_154 : decode cX6_digest 154 = .ok (.ladd, 1) := dk_97 (dk_at dksX6_digest_6 12 rfl rfl)
theorem dX6_digest_155 : decode cX6_digest 155 = .ok (.lstore_n 1, 1) := dk_64 (dk_at dksX6_digest_6 13 rfl rfl)
theorem dX6_digest_156 : decode cX6_digest 156 = .ok (.ldc2_w 291, 3) := dk_20 1 35 (dk_at dksX6_digest_6 14 rfl rfl)
theorem dX6_digest_159 : decode cX6_digest 159 = .ok (.lload_n 1, 1) := dk_31 (dk_at dksX6_digest_6 17 rfl rfl)
theorem dX6_digest_160 : decode cX6_digest 160 = .ok (.lmul, 1) := dk_105 (dk_at dksX6_digest_6 18 rfl rfl)
theorem dX6_digest_161 : decode cX6_digest 161 = .ok (.aload_n 0, 1) := dk_42 (dk_at dksX6_digest_6 19 rfl rfl)
theorem dX6_digest_162 : decode cX6_digest 162 = .ok (.iload_n 3, 1) := dk_29 (dk_at dksX6_digest_6 20 rfl rfl)
theorem dX6_digest_163 : decode cX6_digest 163 = .ok (.iconst 2, 1) := dk_5 (dk_at dksX6_digest_6 21 rfl rfl)
theorem dX6_digest_164 : decode cX6_digest 164 = .ok (.iconst 1, 1) := dk_4 (dk_at dksX6_digest_6 22 rfl rfl)
theorem dX6_digest_165 : decode cX6_digest 165 = .ok (.invokevirtual 239, 3) := dk_182 0 239 (dk_at dksX6_digest_7 0 rfl rfl)
theorem dX6_digest_168 : decode cX6_digest 168 = .ok (.ladd, 1) := dk_97 (dk_at dksX6_digest_7 3 rfl rfl)
theorem dX6_digest_169 : decode cX6_digest 169 = .ok (.lstore_n 1, 1) := dk_64 (dk_at dksX6_digest_7 4 rfl rfl)
theorem dX6_digest_170 : decode cX6_digest 170 = .ok (.ldc2_w 291, 3) := dk_20 1 35 (dk_at dksX6_digest_7 5 rfl rfl)
theorem dX6_digest_173 : decode cX6_digest 173 = .ok (.lload_n 1, 1) := dk_31 (dk_at dksX6_digest_7 8 rfl rfl)
theorem dX6_digest_174 : decode cX6_digest 174 = .ok (.lmul, 1) := dk_105 (dk_at dksX6_digest_7 9 rfl rfl)
theorem dX6_digest_175 : decode cX6_digest 175 = .ok (.aload_n 0, 1) := dk_42 (dk_at dksX6_digest_7 10 rfl rfl)
theorem dX6_digest_176 : decode cX6_digest 176 = .ok (.getfield 67, 3) := dk_180 0 67 (dk_at dksX6_digest_7 11 rfl rfl)
theorem dX6_digest_179 : decode cX6_digest 179 = .ok (.iload_n 3, 1) := dk_29 (dk_at dksX6_digest_7 14 rfl rfl)
theorem dX6_digest_180 : decode cX6_digest 180 = .ok (.iaload, 1) := dk_46 (dk_at dksX6_digest_7 15 rfl rfl)
theorem dX6_digest_181 : decode cX6_digest 181 = .ok (.i2l, 1) := dk_133 (dk_at dksX6_digest_7 16 rfl rfl)
theorem dX6_digest_182 : decode cX6_digest 182 = .ok (.ladd, 1) := dk_97 (dk_at dksX6_digest_7 17 rfl rfl)
theorem dX6_digest_183 : decode cX6_digest 183 = .ok (.lstore_n 1, 1) := dk_64 (dk_at dksX6_digest_7 18 rfl rfl)
theorem dX6_digest_184 : decode cX6_digest 184 = .ok (.ldc2_w 291, 3) := dk_20 1 35 (dk_at dksX6_digest_7 19 rfl rfl)
theorem dX6_digest_187 : decode cX6_digest 187 = .ok (.lload_n 1, 1) := dk_31 (dk_at dksX6_digest_7 22 rfl rfl)
theorem dX6_digest_188 : decode cX6_digest 188 = .ok (.lmul, 1) := dk_105 (dk_at dksX6_digest_7 23 rfl rfl)
theorem dX6_digest_189 : decode cX6_digest 189 = .ok (.aload_n 0, 1) := dk_42 (dk_at dksX6_digest_8 0 rfl rfl)
theorem dX6_digest_190 : decode cX6_digest 190 = .ok (.iconst 1, 1) := dk_4 (dk_at dksX6_digest_8 1 rfl rfl)
theorem dX6_digest_191 : decode cX6_digest 191 = .ok (.iload_n 3, 1) := dk_29 (dk_at dksX6_digest_8 2 rfl rfl)
theorem dX6_digest_192 : decode cX6_digest 192 = .ok (.ishl, 1) := dk_120 (dk_at dksX6_digest_8 3 rfl rfl)
theorem dX6_digest_193 : decode cX6_digest 193 = .ok (.invokevirtual 261, 3) := dk_182 1 5 (dk_at dksX6_digest_8 4 rfl rfl)
theorem dX6_digest_196 : decode cX6_digest 196 = .ok (.i2l, 1) := dk_133 (dk_at dksX6_digest_8 7 rfl rfl)
theorem dX6_digest_197 : decode cX6_digest 197 = .ok (.ladd, 1) := dk_97 (dk_at dksX6_digest_8 8 rfl rfl)
theorem dX6_digest_198 : decode cX6_digest 198 = .ok (.lstore_n 1, 1) := dk_64 (dk_at dksX6_digest_8 9 rfl rfl)
theorem dX6_digest_199 : decode cX6_digest 199 = .ok (.iinc 3 1, 3) := dk_132 3 1 (dk_at dksX6_digest_8 10 rfl rfl)
theorem dX6_digest_202 : decode cX6_digest 202 = .ok (.goto (-139), 3) := dk_167 255 117 (dk_at dksX6_digest_8 13 rfl rfl)
theorem dX6_digest_205 : decode cX6_digest 205 = .ok (.iconst 0, 1) := dk_3 (dk_at dksX6_digest_8 16 rfl rfl)
theorem dX6_digest_206 : decode cX6_digest 206 = .ok (.istore_n 3, 1) := dk_62 (dk_at dksX6_digest_8 17 rfl rfl)
theorem dX6_digest_207 : decode cX6_digest 207 = .ok (.iload_n 3, 1) := dk_29 (dk_at dksX6_digest_8 18 rfl rfl)
theorem dX6_digest_208 : decode cX6_digest 208 = .ok (.iconst 4, 1) := dk_7 (dk_at dksX6_digest_8 19 rfl rfl)
theorem dX6_digest_209 : decode cX6_digest 209 = .ok (.if_icmp .ge 39, 3) := dk_162 0 39 (dk_at dksX6_digest_8 20 rfl rfl)
theorem dX6_digest_212 : decode cX6_digest 212 = .ok (.iconst 0, 1) := dk_3 (dk_at dksX6_digest_8 23 rfl rfl)
theorem dX6_digest_213 : decode cX6_digest 213 = .ok (.istore 4, 2) := dk_54 4 (dk_at dksX6_digest_9 0 rfl rfl)
theorem dX6_digest_215 : decode cX6_digest 215 = .ok (.iload 4, 2) := dk_21 4 (dk_at dksX6_digest_9 2 rfl rfl)
theorem dX6_digest_217 : decode cX6_digest 217 = .ok (.iconst 3, 1) := dk_6 (dk_at dksX6_digest_9 4 rfl rfl)
theorem dX6_digest_218 : decode cX6_digest 218 = .ok (.if_icmp .ge 24, 3) := dk_162 0 24 (dk_at dksX6_digest_9 5 rfl rfl)
theorem dX6_digest_221 : decode cX6_digest 221 = .ok (.ldc2_w 291, 3) := dk_20 1 35 (dk_at dksX6_digest_9 8 rfl rfl)
theorem dX6_digest_224 : decode cX6_digest 224 = .ok (.lload_n 1, 1) := dk_31 (dk_at dksX6_digest_9 11 rfl rfl)
theorem dX6_digest_225 : decode cX6_digest 225 = .ok (.lmul, 1) := dk_105 (dk_at dksX6_digest_9 12 rfl rfl)
theorem dX6_digest_226 : decode cX6_digest 226 = .ok (.aload_n 0, 1) := dk_42 (dk_at dksX6_digest_9 13 rfl rfl)
theorem dX6_digest_227 : decode cX6_digest 227 = .ok (.iload_n 3, 1) := dk_29 (dk_at dksX6_digest_9 14 rfl rfl)
theorem dX6_digest_228 : decode cX6_digest 228 = .ok (.iload 4, 2) := dk_21 4 (dk_at dksX6_digest_9 15 rfl rfl)
theorem dX6_digest_230 : decode cX6_digest 230 = .ok (.invokevirtual 149, 3) := dk_182 0 149 (dk_at dksX6_digest_9 17 rfl rfl)
theorem dX6_digest_233 : decode cX6_digest 233 = .ok (.i2l, 1) := dk_133 (dk_at dksX6_digest_9 20 rfl rfl)
theorem dX6_digest_234 : decode cX6_digest 234 = .ok (.ladd, 1) := dk_97 (dk_at dksX6_digest_9 21 rfl rfl)
theorem dX6_digest_235 : decode cX6_digest 235 = .ok (.lstore_n 1, 1) := dk_64 (dk_at dksX6_digest_9 22 rfl rfl)
theorem dX6_digest_236 : decode cX6_digest 236 = .ok (.iinc 4 1, 3) := dk_132 4 1 (dk_at dksX6_digest_10 0 rfl rfl)
theorem dX6_digest_239 : decode cX6_digest 239 = .ok (.goto (-24), 3) := dk_167 255 232 (dk_at dksX6_digest_10 3 rfl rfl)
theorem dX6_digest_242 : decode cX6_digest 242 = .ok (.iinc 3 1, 3) := dk_132 3 1 (dk_at dksX6_digest_10 6 rfl rfl)
theorem dX6_digest_245 : decode cX6_digest 245 = .ok (.goto (-38), 3) := dk_167 255 218 (dk_at dksX6_digest_10 9 rfl rfl)
theorem dX6_digest_248 : decode cX6_digest 248 = .ok (.ldc2_w 291, 3) := dk_20 1 35 (dk_at dksX6_digest_10 12 rfl rfl)
theorem dX6_digest_251 : decode cX6_digest 251 = .ok (.lload_n 1, 1) := dk_31 (dk_at dksX6_digest_10 15 rfl rfl)
theorem dX6_digest_252 : decode cX6_digest 252 = .ok (.lmul, 1) := dk_105 (dk_at dksX6_digest_10 16 rfl rfl)
theorem dX6_digest_253 : decode cX6_digest 253 = .ok (.aload_n 0, 1) := dk_42 (dk_at dksX6_digest_10 17 rfl rfl)
theorem dX6_digest_254 : decode cX6_digest 254 = .ok (.getfield 205, 3) := dk_180 0 205 (dk_at dksX6_digest_10 18 rfl rfl)
theorem dX6_digest_257 : decode cX6_digest 257 = .ok (.i2l, 1) := dk_133 (dk_at dksX6_digest_10 21 rfl rfl)
theorem dX6_digest_258 : decode cX6_digest 258 = .ok (.ladd, 1) := dk_97 (dk_at dksX6_digest_10 22 rfl rfl)
theorem dX6_digest_259 : decode cX6_digest 259 = .ok (.lstore_n 1, 1) := dk_64 (dk_at dksX6_digest_10 23 rfl rfl)
theorem dX6_digest_260 : decode cX6_digest 260 = .ok (.ldc2_w 291, 3) := dk_20 1 35 (dk_at dksX6_digest_11 0 rfl rfl)
theorem dX6_digest_263 : decode cX6_digest 263 = .ok (.lload_n 1, 1) := dk_31 (dk_at dksX6_digest_11 3 rfl rfl)
theorem dX6_digest_264 : decode cX6_digest 264 = .ok (.lmul, 1) := dk_105 (dk_at dksX6_digest_11 4 rfl rfl)
theorem dX6_digest_265 : decode cX6_digest 265 = .ok (.aload_n 0, 1) := dk_42 (dk_at dksX6_digest_11 5 rfl rfl)
theorem dX6_digest_266 : decode cX6_digest 266 = .ok (.getfield 208, 3) := dk_180 0 208 (dk_at dksX6_digest_11 6 rfl rfl)
theorem dX6_digest_269 : decode cX6_digest 269 = .ok (.i2l, 1) := dk_133 (dk_at dksX6_digest_11 9 rfl rfl)
theorem dX6_digest_270 : decode cX6_digest 270 = .ok (.ladd, 1) := dk_97 (dk_at dksX6_digest_11 10 rfl rfl)
theorem dX6_digest_271 : decode cX6_digest 271 = .ok (.lstore_n 1, 1) := dk_64 (dk_at dksX6_digest_11 11 rfl rfl)
theorem dX6_digest_272 : decode cX6_digest 272 = .ok (.iconst 0, 1) := dk_3 (dk_at dksX6_digest_11 12 rfl rfl)
theorem dX6_digest_273 : decode cX6_digest 273 = .ok (.istore_n 3, 1) := dk_62 (dk_at dksX6_digest_11 13 rfl rfl)
theorem dX6_digest_274 : decode cX6_digest 274 = .ok (.iload_n 3, 1) := dk_29 (dk_at dksX6_digest_11 14 rfl rfl)
theorem dX6_digest_275 : decode cX6_digest 275 = .ok (.iconst 3, 1) := dk_6 (dk_at dksX6_digest_11 15 rfl rfl)
theorem dX6_digest_276 : decode cX6_digest 276 = .ok (.if_icmp .ge 22, 3) := dk_162 0 22 (dk_at dksX6_digest_11 16 rfl rfl)
theorem dX6_digest_279 : decode cX6_digest 279 = .ok (.ldc2_w 291, 3) := dk_20 1 35 (dk_at dksX6_digest_11 19 rfl rfl)
theorem dX6_digest_282 : decode cX6_digest 282 = .ok (.lload_n 1, 1) := dk_31 (dk_at dksX6_digest_11 22 rfl rfl)
theorem dX6_digest_283 : decode cX6_digest 283 = .ok (.lmul, 1) := dk_105 (dk_at dksX6_digest_11 23 rfl rfl)
theorem dX6_digest_284 : decode cX6_digest 284 = .ok (.aload_n 0, 1) := dk_42 (dk_at dksX6_digest_12 0 rfl rfl)
theorem dX6_digest_285 : decode cX6_digest 285 = .ok (.iload_n 3, 1) := dk_29 (dk_at dksX6_digest_12 1 rfl rfl)
theorem dX6_digest_286 : decode cX6_digest 286 = .ok (.invokevirtual 223, 3) := dk_182 0 223 (dk_at dksX6_digest_12 2 rfl rfl)
theorem dX6_digest_289 : decode cX6_digest 289 = .ok (.i2l, 1) := dk_133 (dk_at dksX6_digest_12 5 rfl rfl)
theorem dX6_digest_290 : decode cX6_digest 290 = .ok (.ladd, 1) := dk_97 (dk_at dksX6_digest_12 6 rfl rfl)
theorem dX6_digest_291 : decode cX6_digest 291 = .ok (.lstore_n 1, 1) := dk_64 (dk_at dksX6_digest_12 7 rfl rfl)
theorem dX6_digest_292 : decode cX6_digest 292 = .ok (.iinc 3 1, 3) := dk_132 3 1 (dk_at dksX6_digest_12 8 rfl rfl)
theorem dX6_digest_295 : decode cX6_digest 295 = .ok (.goto (-21), 3) := dk_167 255 235 (dk_at dksX6_digest_12 11 rfl rfl)
theorem dX6_digest_298 : decode cX6_digest 298 = .ok (.ldc2_w 291, 3) := dk_20 1 35 (dk_at dksX6_digest_12 14 rfl rfl)
theorem dX6_digest_301 : decode cX6_digest 301 = .ok (.lload_n 1, 1) := dk_31 (dk_at dksX6_digest_12 17 rfl rfl)
theorem dX6_digest_302 : decode cX6_digest 302 = .ok (.lmul, 1) := dk_105 (dk_at dksX6_digest_12 18 rfl rfl)
theorem dX6_digest_303 : decode cX6_digest 303 = .ok (.aload_n 0, 1) := dk_42 (dk_at dksX6_digest_12 19 rfl rfl)
theorem dX6_digest_304 : decode cX6_digest 304 = .ok (.iconst 0, 1) := dk_3 (dk_at dksX6_digest_12 20 rfl rfl)
theorem dX6_digest_305 : decode cX6_digest 305 = .ok (.invokevirtual 252, 3) := dk_182 0 252 (dk_at dksX6_digest_12 21 rfl rfl)
theorem dX6_digest_308 : decode cX6_digest 308 = .ok (.i2l, 1) := dk_133 (dk_at dksX6_digest_13 0 rfl rfl)
theorem dX6_digest_309 : decode cX6_digest 309 = .ok (.ladd, 1) := dk_97 (dk_at dksX6_digest_13 1 rfl rfl)
theorem dX6_digest_310 : decode cX6_digest 310 = .ok (.lstore_n 1, 1) := dk_64 (dk_at dksX6_digest_13 2 rfl rfl)
theorem dX6_digest_311 : decode cX6_digest 311 = .ok (.ldc2_w 291, 3) := dk_20 1 35 (dk_at dksX6_digest_13 3 rfl rfl)
theorem dX6_digest_314 : decode cX6_digest 314 = .ok (.lload_n 1, 1) := dk_31 (dk_at dksX6_digest_13 6 rfl rfl)
theorem dX6_digest_315 : decode cX6_digest 315 = .ok (.lmul, 1) := dk_105 (dk_at dksX6_digest_13 7 rfl rfl)
theorem dX6_digest_316 : decode cX6_digest 316 = .ok (.aload_n 0, 1) := dk_42 (dk_at dksX6_digest_13 8 rfl rfl)
theorem dX6_digest_317 : decode cX6_digest 317 = .ok (.iconst 1, 1) := dk_4 (dk_at dksX6_digest_13 9 rfl rfl)
theorem dX6_digest_318 : decode cX6_digest 318 = .ok (.invokevirtual 252, 3) := dk_182 0 252 (dk_at dksX6_digest_13 10 rfl rfl)
theorem dX6_digest_321 : decode cX6_digest 321 = .ok (.i2l, 1) := dk_133 (dk_at dksX6_digest_13 13 rfl rfl)
theorem dX6_digest_322 : decode cX6_digest 322 = .ok (.ladd, 1) := dk_97 (dk_at dksX6_digest_13 14 rfl rfl)
theorem dX6_digest_323 : decode cX6_digest 323 = .ok (.lstore_n 1, 1) := dk_64 (dk_at dksX6_digest_13 15 rfl rfl)
theorem dX6_digest_324 : decode cX6_digest 324 = .ok (.ldc2_w 291, 3) := dk_20 1 35 (dk_at dksX6_digest_13 16 rfl rfl)
theorem dX6_digest_327 : decode cX6_digest 327 = .ok (.lload_n 1, 1) := dk_31 (dk_at dksX6_digest_13 19 rfl rfl)
theorem dX6_digest_328 : decode cX6_digest 328 = .ok (.lmul, 1) := dk_105 (dk_at dksX6_digest_13 20 rfl rfl)
theorem dX6_digest_329 : decode cX6_digest 329 = .ok (.aload_n 0, 1) := dk_42 (dk_at dksX6_digest_13 21 rfl rfl)
theorem dX6_digest_330 : decode cX6_digest 330 = .ok (.invokevirtual 264, 3) := dk_182 1 8 (dk_at dksX6_digest_14 0 rfl rfl)
theorem dX6_digest_333 : decode cX6_digest 333 = .ok (.i2l, 1) := dk_133 (dk_at dksX6_digest_14 3 rfl rfl)
theorem dX6_digest_334 : decode cX6_digest 334 = .ok (.ladd, 1) := dk_97 (dk_at dksX6_digest_14 4 rfl rfl)
theorem dX6_digest_335 : decode cX6_digest 335 = .ok (.lstore_n 1, 1) := dk_64 (dk_at dksX6_digest_14 5 rfl rfl)
theorem dX6_digest_336 : decode cX6_digest 336 = .ok (.ldc2_w 291, 3) := dk_20 1 35 (dk_at dksX6_digest_14 6 rfl rfl)
theorem dX6_digest_339 : decode cX6_digest 339 = .ok (.lload_n 1, 1) := dk_31 (dk_at dksX6_digest_14 9 rfl rfl)
theorem dX6_digest_340 : decode cX6_digest 340 = .ok (.lmul, 1) := dk_105 (dk_at dksX6_digest_14 10 rfl rfl)
theorem dX6_digest_341 : decode cX6_digest 341 = .ok (.aload_n 0, 1) := dk_42 (dk_at dksX6_digest_14 11 rfl rfl)
theorem dX6_digest_342 : decode cX6_digest 342 = .ok (.iconst 2, 1) := dk_5 (dk_at dksX6_digest_14 12 rfl rfl)
theorem dX6_digest_343 : decode cX6_digest 343 = .ok (.iconst 0, 1) := dk_3 (dk_at dksX6_digest_14 13 rfl rfl)
theorem dX6_digest_344 : decode cX6_digest 344 = .ok (.invokevirtual 271, 3) := dk_182 1 15 (dk_at dksX6_digest_14 14 rfl rfl)
theorem dX6_digest_347 : decode cX6_digest 347 = .ok (.ladd, 1) := dk_97 (dk_at dksX6_digest_14 17 rfl rfl)
theorem dX6_digest_348 : decode cX6_digest 348 = .ok (.lstore_n 1, 1) := dk_64 (dk_at dksX6_digest_14 18 rfl rfl)
theorem dX6_digest_349 : decode cX6_digest 349 = .ok (.ldc2_w 291, 3) := dk_20 1 35 (dk_at dksX6_digest_14 19 rfl rfl)
theorem dX6_digest_352 : decode cX6_digest 352 = .ok (.lload_n 1, 1) := dk_31 (dk_at dksX6_digest_14 22 rfl rfl)
theorem dX6_digest_353 : decode cX6_digest 353 = .ok (.lmul, 1) := dk_105 (dk_at dksX6_digest_14 23 rfl rfl)
theorem dX6_digest_354 : decode cX6_digest 354 = .ok (.aload_n 0, 1) := dk_42 (dk_at dksX6_digest_15 0 rfl rfl)
theorem dX6_digest_355 : decode cX6_digest 355 = .ok (.iconst 2, 1) := dk_5 (dk_at dksX6_digest_15 1 rfl rfl)
theorem dX6_digest_356 : decode cX6_digest 356 = .ok (.iconst 1, 1) := dk_4 (dk_at dksX6_digest_15 2 rfl rfl)
theorem dX6_digest_357 : decode cX6_digest 357 = .ok (.invokevirtual 271, 3) := dk_182 1 15 (dk_at dksX6_digest_15 3 rfl rfl)
theorem dX6_digest_360 : decode cX6_digest 360 = .ok (.ladd, 1) := dk_97 (dk_at dksX6_digest_15 6 rfl rfl)
theorem dX6_digest_361 : decode cX6_digest 361 = .ok (.lreturn, 1) := dk_173 (dk_at dksX6_digest_15 7 rfl rfl)
theorem q88 : (Jvm.Cond.initialized "SecondChancesModel") ∈ lw_all := lw_g (lw_at lw_m1 10 rfl) rfl
theorem q592 : (Jvm.Cond.selects "SecondChancesModel" ({ cls := "java/lang/Object", name := "getClass", desc := "()Ljava/lang/Class;" } : Jvm.MethodName) ({ cls := "java/lang/Object", name := "getClass", desc := "()Ljava/lang/Class;" } : Jvm.MethodName)) ∈ lw_all := lw_g (lw_at lw_m3 34 rfl) rfl
theorem q1041 : (Jvm.Cond.instantiable "SecondChancesModel" (39 : Nat)) ∈ lw_all := lw_g (lw_at lw_m5 3 rfl) rfl
theorem q1043 : (Jvm.Cond.instanceMethod ({ cls := "SecondChancesModel", name := "<init>", desc := "()V" } : Jvm.MethodName)) ∈ lw_all := lw_g (lw_at lw_m5 5 rfl) rfl
theorem q1044 : (Jvm.Cond.code ({ cls := "SecondChancesModel", name := "<init>", desc := "()V" } : Jvm.MethodName) prog_11_method_1_code (2 : Nat) (Option.none : Option Jvm.ClassFile.FieldType)) ∈ lw_all := lw_g (lw_at lw_m5 6 rfl) rfl
theorem q1045 : (Jvm.Cond.methodLink "SecondChancesModel" (1 : Nat) ({ cls := "java/lang/Object", name := "<init>", desc := "()V" } : Jvm.MethodName)) ∈ lw_all := lw_g (lw_at lw_m5 7 rfl) rfl
theorem q1046 : (Jvm.Cond.fieldLink "SecondChancesModel" (7 : Nat) "SecondChancesModel" "typed" "[I") ∈ lw_all := lw_g (lw_at lw_m5 8 rfl) rfl
theorem q1047 : (Jvm.Cond.fieldLink "SecondChancesModel" (13 : Nat) "SecondChancesModel" "texts" "[I") ∈ lw_all := lw_g (lw_at lw_m5 9 rfl) rfl
theorem q1048 : (Jvm.Cond.fieldLink "SecondChancesModel" (107 : Nat) "SecondChancesModel" "deeds" "I") ∈ lw_all := lw_g (lw_at lw_m5 10 rfl) rfl
theorem q1049 : (Jvm.Cond.fieldLink "SecondChancesModel" (16 : Nat) "SecondChancesModel" "kindOf" "[I") ∈ lw_all := lw_g (lw_at lw_m5 11 rfl) rfl
theorem q1050 : (Jvm.Cond.fieldLink "SecondChancesModel" (19 : Nat) "SecondChancesModel" "placeOf" "[I") ∈ lw_all := lw_g (lw_at lw_m5 12 rfl) rfl
theorem q1051 : (Jvm.Cond.fieldLink "SecondChancesModel" (22 : Nat) "SecondChancesModel" "rainOf" "[I") ∈ lw_all := lw_g (lw_at lw_m5 13 rfl) rfl
theorem q1052 : (Jvm.Cond.fieldLink "SecondChancesModel" (25 : Nat) "SecondChancesModel" "worthOf" "[I") ∈ lw_all := lw_g (lw_at lw_m5 14 rfl) rfl
theorem q1053 : (Jvm.Cond.fieldLink "SecondChancesModel" (28 : Nat) "SecondChancesModel" "whoOf" "[I") ∈ lw_all := lw_g (lw_at lw_m5 15 rfl) rfl
theorem q1054 : (Jvm.Cond.fieldLink "SecondChancesModel" (123 : Nat) "SecondChancesModel" "parts" "I") ∈ lw_all := lw_g (lw_at lw_m5 16 rfl) rfl
theorem q1055 : (Jvm.Cond.fieldLink "SecondChancesModel" (31 : Nat) "SecondChancesModel" "ruleMany" "[I") ∈ lw_all := lw_g (lw_at lw_m5 17 rfl) rfl
theorem q1056 : (Jvm.Cond.fieldLink "SecondChancesModel" (34 : Nat) "SecondChancesModel" "ruleRain" "[I") ∈ lw_all := lw_g (lw_at lw_m5 18 rfl) rfl
theorem q1057 : (Jvm.Cond.fieldLink "SecondChancesModel" (37 : Nat) "SecondChancesModel" "rulePlace" "[I") ∈ lw_all := lw_g (lw_at lw_m5 19 rfl) rfl
theorem q1058 : (Jvm.Cond.fieldLink "SecondChancesModel" (40 : Nat) "SecondChancesModel" "come" "[I") ∈ lw_all := lw_g (lw_at lw_m5 20 rfl) rfl
theorem q1059 : (Jvm.Cond.fieldLink "SecondChancesModel" (43 : Nat) "SecondChancesModel" "until" "[I") ∈ lw_all := lw_g (lw_at lw_m5 21 rfl) rfl
theorem q1060 : (Jvm.Cond.fieldLink "SecondChancesModel" (46 : Nat) "SecondChancesModel" "price" "[I") ∈ lw_all := lw_g (lw_at lw_m5 22 rfl) rfl
theorem q1061 : (Jvm.Cond.fieldLink "SecondChancesModel" (49 : Nat) "SecondChancesModel" "memory" "[I") ∈ lw_all := lw_g (lw_at lw_m5 23 rfl) rfl
theorem q1062 : (Jvm.Cond.fieldLink "SecondChancesModel" (52 : Nat) "SecondChancesModel" "rains" "[I") ∈ lw_all := lw_g (lw_at lw_m5 24 rfl) rfl
theorem q1063 : (Jvm.Cond.fieldLink "SecondChancesModel" (55 : Nat) "SecondChancesModel" "setting" "[I") ∈ lw_all := lw_g (lw_at lw_m5 25 rfl) rfl
theorem q1064 : (Jvm.Cond.fieldLink "SecondChancesModel" (58 : Nat) "SecondChancesModel" "together" "[I") ∈ lw_all := lw_g (lw_at lw_m5 26 rfl) rfl
theorem q1065 : (Jvm.Cond.fieldLink "SecondChancesModel" (61 : Nat) "SecondChancesModel" "least" "[I") ∈ lw_all := lw_g (lw_at lw_m5 27 rfl) rfl
theorem q1066 : (Jvm.Cond.fieldLink "SecondChancesModel" (64 : Nat) "SecondChancesModel" "then" "[I") ∈ lw_all := lw_g (lw_at lw_m5 28 rfl) rfl
theorem q1067 : (Jvm.Cond.fieldLink "SecondChancesModel" (67 : Nat) "SecondChancesModel" "fixed" "[I") ∈ lw_all := lw_g (lw_at lw_m5 29 rfl) rfl
theorem q1068 : (Jvm.Cond.fieldLink "SecondChancesModel" (189 : Nat) "SecondChancesModel" "bestWorth" "I") ∈ lw_all := lw_g (lw_at lw_m5 30 rfl) rfl
theorem q1069 : (Jvm.Cond.fieldLink "SecondChancesModel" (192 : Nat) "SecondChancesModel" "bestCost" "I") ∈ lw_all := lw_g (lw_at lw_m5 31 rfl) rfl
theorem q1070 : (Jvm.Cond.fieldLink "SecondChancesModel" (205 : Nat) "SecondChancesModel" "planWorth" "I") ∈ lw_all := lw_g (lw_at lw_m5 32 rfl) rfl
theorem q1071 : (Jvm.Cond.fieldLink "SecondChancesModel" (208 : Nat) "SecondChancesModel" "planCost" "I") ∈ lw_all := lw_g (lw_at lw_m5 33 rfl) rfl
theorem q1072 : (Jvm.Cond.fieldLink "SecondChancesModel" (243 : Nat) "SecondChancesModel" "sights" "I") ∈ lw_all := lw_g (lw_at lw_m5 34 rfl) rfl
theorem q1073 : (Jvm.Cond.fieldLink "SecondChancesModel" (70 : Nat) "SecondChancesModel" "seenWho" "[I") ∈ lw_all := lw_g (lw_at lw_m5 35 rfl) rfl
theorem q1074 : (Jvm.Cond.fieldLink "SecondChancesModel" (73 : Nat) "SecondChancesModel" "seenPlace" "[I") ∈ lw_all := lw_g (lw_at lw_m5 36 rfl) rfl
theorem q1075 : (Jvm.Cond.fieldLink "SecondChancesModel" (76 : Nat) "SecondChancesModel" "seenHour" "[I") ∈ lw_all := lw_g (lw_at lw_m5 37 rfl) rfl
theorem q1076 : (Jvm.Cond.fieldLink "SecondChancesModel" (255 : Nat) "SecondChancesModel" "pairs" "I") ∈ lw_all := lw_g (lw_at lw_m5 38 rfl) rfl
theorem q1077 : (Jvm.Cond.fieldLink "SecondChancesModel" (79 : Nat) "SecondChancesModel" "pairOf" "[I") ∈ lw_all := lw_g (lw_at lw_m5 39 rfl) rfl
theorem q1078 : (Jvm.Cond.fieldLink "SecondChancesModel" (82 : Nat) "SecondChancesModel" "pairThen" "[I") ∈ lw_all := lw_g (lw_at lw_m5 40 rfl) rfl
theorem q1079 : (Jvm.Cond.fieldLink "SecondChancesModel" (85 : Nat) "SecondChancesModel" "isThere" "[Z") ∈ lw_all := lw_g (lw_at lw_m5 41 rfl) rfl
theorem q1080 : (Jvm.Cond.fieldLink "SecondChancesModel" (89 : Nat) "SecondChancesModel" "forms" "[I") ∈ lw_all := lw_g (lw_at lw_m5 42 rfl) rfl
theorem q1081 : (Jvm.Cond.fieldLink "SecondChancesModel" (92 : Nat) "SecondChancesModel" "sizes" "[I") ∈ lw_all := lw_g (lw_at lw_m5 43 rfl) rfl
theorem q1082 : (Jvm.Cond.fieldLink "SecondChancesModel" (95 : Nat) "SecondChancesModel" "items" "[I") ∈ lw_all := lw_g (lw_at lw_m5 44 rfl) rfl
theorem q1083 : (Jvm.Cond.fieldLink "SecondChancesModel" (98 : Nat) "SecondChancesModel" "moved" "[I") ∈ lw_all := lw_g (lw_at lw_m5 45 rfl) rfl
theorem q1084 : (Jvm.Cond.fieldLink "SecondChancesModel" (274 : Nat) "SecondChancesModel" "finding" "I") ∈ lw_all := lw_g (lw_at lw_m5 46 rfl) rfl
theorem q1085 : (Jvm.Cond.laysFinal "SecondChancesModel" "SecondChancesModel" "typed" "[I") ∈ lw_all := lw_g (lw_at lw_m5 47 rfl) rfl
theorem q1086 : (Jvm.Cond.soleField "SecondChancesModel" "typed") ∈ lw_all := lw_g (lw_at lw_m5 48 rfl) rfl
theorem q1087 : (Jvm.Cond.laysFinal "SecondChancesModel" "SecondChancesModel" "texts" "[I") ∈ lw_all := lw_g (lw_at lw_m5 49 rfl) rfl
theorem q1088 : (Jvm.Cond.soleField "SecondChancesModel" "texts") ∈ lw_all := lw_g (lw_at lw_m5 50 rfl) rfl
theorem q1089 : (Jvm.Cond.lays "SecondChancesModel" "SecondChancesModel" "deeds" "I") ∈ lw_all := lw_g (lw_at lw_m5 51 rfl) rfl
theorem q1090 : (Jvm.Cond.soleField "SecondChancesModel" "deeds") ∈ lw_all := lw_g (lw_at lw_m5 52 rfl) rfl
theorem q1091 : (Jvm.Cond.laysFinal "SecondChancesModel" "SecondChancesModel" "kindOf" "[I") ∈ lw_all := lw_g (lw_at lw_m5 53 rfl) rfl
theorem q1092 : (Jvm.Cond.soleField "SecondChancesModel" "kindOf") ∈ lw_all := lw_g (lw_at lw_m5 54 rfl) rfl
theorem q1093 : (Jvm.Cond.laysFinal "SecondChancesModel" "SecondChancesModel" "placeOf" "[I") ∈ lw_all := lw_g (lw_at lw_m5 55 rfl) rfl
theorem q1094 : (Jvm.Cond.soleField "SecondChancesModel" "placeOf") ∈ lw_all := lw_g (lw_at lw_m5 56 rfl) rfl
theorem q1095 : (Jvm.Cond.laysFinal "SecondChancesModel" "SecondChancesModel" "rainOf" "[I") ∈ lw_all := lw_g (lw_at lw_m5 57 rfl) rfl
theorem q1096 : (Jvm.Cond.soleField "SecondChancesModel" "rainOf") ∈ lw_all := lw_g (lw_at lw_m5 58 rfl) rfl
theorem q1097 : (Jvm.Cond.laysFinal "SecondChancesModel" "SecondChancesModel" "worthOf" "[I") ∈ lw_all := lw_g (lw_at lw_m5 59 rfl) rfl
theorem q1098 : (Jvm.Cond.soleField "SecondChancesModel" "worthOf") ∈ lw_all := lw_g (lw_at lw_m5 60 rfl) rfl
theorem q1099 : (Jvm.Cond.laysFinal "SecondChancesModel" "SecondChancesModel" "whoOf" "[I") ∈ lw_all := lw_g (lw_at lw_m5 61 rfl) rfl
theorem q1100 : (Jvm.Cond.soleField "SecondChancesModel" "whoOf") ∈ lw_all := lw_g (lw_at lw_m5 62 rfl) rfl
theorem q1101 : (Jvm.Cond.lays "SecondChancesModel" "SecondChancesModel" "parts" "I") ∈ lw_all := lw_g (lw_at lw_m5 63 rfl) rfl
theorem q1102 : (Jvm.Cond.soleField "SecondChancesModel" "parts") ∈ lw_all := lw_g (lw_at lw_m5 64 rfl) rfl
theorem q1103 : (Jvm.Cond.laysFinal "SecondChancesModel" "SecondChancesModel" "ruleMany" "[I") ∈ lw_all := lw_g (lw_at lw_m5 65 rfl) rfl
theorem q1104 : (Jvm.Cond.soleField "SecondChancesModel" "ruleMany") ∈ lw_all := lw_g (lw_at lw_m5 66 rfl) rfl
theorem q1105 : (Jvm.Cond.laysFinal "SecondChancesModel" "SecondChancesModel" "ruleRain" "[I") ∈ lw_all := lw_g (lw_at lw_m5 67 rfl) rfl
theorem q1106 : (Jvm.Cond.soleField "SecondChancesModel" "ruleRain") ∈ lw_all := lw_g (lw_at lw_m5 68 rfl) rfl
theorem q1107 : (Jvm.Cond.laysFinal "SecondChancesModel" "SecondChancesModel" "rulePlace" "[I") ∈ lw_all := lw_g (lw_at lw_m5 69 rfl) rfl
theorem q1108 : (Jvm.Cond.soleField "SecondChancesModel" "rulePlace") ∈ lw_all := lw_g (lw_at lw_m5 70 rfl) rfl
theorem q1109 : (Jvm.Cond.laysFinal "SecondChancesModel" "SecondChancesModel" "come" "[I") ∈ lw_all := lw_g (lw_at lw_m5 71 rfl) rfl
theorem q1110 : (Jvm.Cond.soleField "SecondChancesModel" "come") ∈ lw_all := lw_g (lw_at lw_m5 72 rfl) rfl
theorem q1111 : (Jvm.Cond.laysFinal "SecondChancesModel" "SecondChancesModel" "until" "[I") ∈ lw_all := lw_g (lw_at lw_m5 73 rfl) rfl
theorem q1112 : (Jvm.Cond.soleField "SecondChancesModel" "until") ∈ lw_all := lw_g (lw_at lw_m5 74 rfl) rfl
theorem q1113 : (Jvm.Cond.laysFinal "SecondChancesModel" "SecondChancesModel" "price" "[I") ∈ lw_all := lw_g (lw_at lw_m5 75 rfl) rfl
theorem q1114 : (Jvm.Cond.soleField "SecondChancesModel" "price") ∈ lw_all := lw_g (lw_at lw_m5 76 rfl) rfl
theorem q1115 : (Jvm.Cond.laysFinal "SecondChancesModel" "SecondChancesModel" "memory" "[I") ∈ lw_all := lw_g (lw_at lw_m5 77 rfl) rfl
theorem q1116 : (Jvm.Cond.soleField "SecondChancesModel" "memory") ∈ lw_all := lw_g (lw_at lw_m5 78 rfl) rfl
theorem q1117 : (Jvm.Cond.laysFinal "SecondChancesModel" "SecondChancesModel" "rains" "[I") ∈ lw_all := lw_g (lw_at lw_m5 79 rfl) rfl
theorem q1118 : (Jvm.Cond.soleField "SecondChancesModel" "rains") ∈ lw_all := lw_g (lw_at lw_m5 80 rfl) rfl
theorem q1119 : (Jvm.Cond.laysFinal "SecondChancesModel" "SecondChancesModel" "setting" "[I") ∈ lw_all := lw_g (lw_at lw_m5 81 rfl) rfl
theorem q1120 : (Jvm.Cond.soleField "SecondChancesModel" "setting") ∈ lw_all := lw_g (lw_at lw_m5 82 rfl) rfl
theorem q1121 : (Jvm.Cond.laysFinal "SecondChancesModel" "SecondChancesModel" "together" "[I") ∈ lw_all := lw_g (lw_at lw_m5 83 rfl) rfl
theorem q1122 : (Jvm.Cond.soleField "SecondChancesModel" "together") ∈ lw_all := lw_g (lw_at lw_m5 84 rfl) rfl
theorem q1123 : (Jvm.Cond.laysFinal "SecondChancesModel" "SecondChancesModel" "least" "[I") ∈ lw_all := lw_g (lw_at lw_m5 85 rfl) rfl
theorem q1124 : (Jvm.Cond.soleField "SecondChancesModel" "least") ∈ lw_all := lw_g (lw_at lw_m5 86 rfl) rfl
theorem q1125 : (Jvm.Cond.laysFinal "SecondChancesModel" "SecondChancesModel" "then" "[I") ∈ lw_all := lw_g (lw_at lw_m5 87 rfl) rfl
theorem q1126 : (Jvm.Cond.soleField "SecondChancesModel" "then") ∈ lw_all := lw_g (lw_at lw_m5 88 rfl) rfl
theorem q1127 : (Jvm.Cond.laysFinal "SecondChancesModel" "SecondChancesModel" "fixed" "[I") ∈ lw_all := lw_g (lw_at lw_m5 89 rfl) rfl
theorem q1128 : (Jvm.Cond.soleField "SecondChancesModel" "fixed") ∈ lw_all := lw_g (lw_at lw_m5 90 rfl) rfl
theorem q1129 : (Jvm.Cond.lays "SecondChancesModel" "SecondChancesModel" "bestWorth" "I") ∈ lw_all := lw_g (lw_at lw_m5 91 rfl) rfl
theorem q1130 : (Jvm.Cond.soleField "SecondChancesModel" "bestWorth") ∈ lw_all := lw_g (lw_at lw_m5 92 rfl) rfl
theorem q1131 : (Jvm.Cond.lays "SecondChancesModel" "SecondChancesModel" "bestCost" "I") ∈ lw_all := lw_g (lw_at lw_m5 93 rfl) rfl
theorem q1132 : (Jvm.Cond.soleField "SecondChancesModel" "bestCost") ∈ lw_all := lw_g (lw_at lw_m5 94 rfl) rfl
theorem q1133 : (Jvm.Cond.lays "SecondChancesModel" "SecondChancesModel" "planWorth" "I") ∈ lw_all := lw_g (lw_at lw_m5 95 rfl) rfl
theorem q1134 : (Jvm.Cond.soleField "SecondChancesModel" "planWorth") ∈ lw_all := lw_g (lw_at lw_m5 96 rfl) rfl
theorem q1135 : (Jvm.Cond.lays "SecondChancesModel" "SecondChancesModel" "planCost" "I") ∈ lw_all := lw_g (lw_at lw_m5 97 rfl) rfl
theorem q1136 : (Jvm.Cond.soleField "SecondChancesModel" "planCost") ∈ lw_all := lw_g (lw_at lw_m5 98 rfl) rfl
theorem q1137 : (Jvm.Cond.lays "SecondChancesModel" "SecondChancesModel" "sights" "I") ∈ lw_all := lw_g (lw_at lw_m5 99 rfl) rfl
theorem q1138 : (Jvm.Cond.soleField "SecondChancesModel" "sights") ∈ lw_all := lw_g (lw_at lw_m5 100 rfl) rfl
theorem q1139 : (Jvm.Cond.laysFinal "SecondChancesModel" "SecondChancesModel" "seenWho" "[I") ∈ lw_all := lw_g (lw_at lw_m5 101 rfl) rfl
theorem q1140 : (Jvm.Cond.soleField "SecondChancesModel" "seenWho") ∈ lw_all := lw_g (lw_at lw_m5 102 rfl) rfl
theorem q1141 : (Jvm.Cond.laysFinal "SecondChancesModel" "SecondChancesModel" "seenPlace" "[I") ∈ lw_all := lw_g (lw_at lw_m5 103 rfl) rfl
theorem q1142 : (Jvm.Cond.soleField "SecondChancesModel" "seenPlace") ∈ lw_all := lw_g (lw_at lw_m5 104 rfl) rfl
theorem q1143 : (Jvm.Cond.laysFinal "SecondChancesModel" "SecondChancesModel" "seenHour" "[I") ∈ lw_all := lw_g (lw_at lw_m5 105 rfl) rfl
theorem q1144 : (Jvm.Cond.soleField "SecondChancesModel" "seenHour") ∈ lw_all := lw_g (lw_at lw_m5 106 rfl) rfl
theorem q1145 : (Jvm.Cond.lays "SecondChancesModel" "SecondChancesModel" "pairs" "I") ∈ lw_all := lw_g (lw_at lw_m5 107 rfl) rfl
theorem q1146 : (Jvm.Cond.soleField "SecondChancesModel" "pairs") ∈ lw_all := lw_g (lw_at lw_m5 108 rfl) rfl
theorem q1147 : (Jvm.Cond.laysFinal "SecondChancesModel" "SecondChancesModel" "pairOf" "[I") ∈ lw_all := lw_g (lw_at lw_m5 109 rfl) rfl
theorem q1148 : (Jvm.Cond.soleField "SecondChancesModel" "pairOf") ∈ lw_all := lw_g (lw_at lw_m5 110 rfl) rfl
theorem q1149 : (Jvm.Cond.laysFinal "SecondChancesModel" "SecondChancesModel" "pairThen" "[I") ∈ lw_all := lw_g (lw_at lw_m5 111 rfl) rfl
theorem q1150 : (Jvm.Cond.soleField "SecondChancesModel" "pairThen") ∈ lw_all := lw_g (lw_at lw_m5 112 rfl) rfl
theorem q1151 : (Jvm.Cond.laysFinal "SecondChancesModel" "SecondChancesModel" "isThere" "[Z") ∈ lw_all := lw_g (lw_at lw_m5 113 rfl) rfl
theorem q1152 : (Jvm.Cond.soleField "SecondChancesModel" "isThere") ∈ lw_all := lw_g (lw_at lw_m5 114 rfl) rfl
theorem q1153 : (Jvm.Cond.laysFinal "SecondChancesModel" "SecondChancesModel" "forms" "[I") ∈ lw_all := lw_g (lw_at lw_m5 115 rfl) rfl
theorem q1154 : (Jvm.Cond.soleField "SecondChancesModel" "forms") ∈ lw_all := lw_g (lw_at lw_m5 116 rfl) rfl
theorem q1155 : (Jvm.Cond.laysFinal "SecondChancesModel" "SecondChancesModel" "sizes" "[I") ∈ lw_all := lw_g (lw_at lw_m5 117 rfl) rfl
theorem q1156 : (Jvm.Cond.soleField "SecondChancesModel" "sizes") ∈ lw_all := lw_g (lw_at lw_m5 118 rfl) rfl
theorem q1157 : (Jvm.Cond.laysFinal "SecondChancesModel" "SecondChancesModel" "items" "[I") ∈ lw_all := lw_g (lw_at lw_m5 119 rfl) rfl
theorem q1158 : (Jvm.Cond.soleField "SecondChancesModel" "items") ∈ lw_all := lw_g (lw_at lw_m5 120 rfl) rfl
theorem q1159 : (Jvm.Cond.laysFinal "SecondChancesModel" "SecondChancesModel" "moved" "[I") ∈ lw_all := lw_g (lw_at lw_m5 121 rfl) rfl
theorem q1160 : (Jvm.Cond.soleField "SecondChancesModel" "moved") ∈ lw_all := lw_g (lw_at lw_m5 122 rfl) rfl
theorem q1161 : (Jvm.Cond.lays "SecondChancesModel" "SecondChancesModel" "finding" "I") ∈ lw_all := lw_g (lw_at lw_m5 123 rfl) rfl
theorem q1162 : (Jvm.Cond.soleField "SecondChancesModel" "finding") ∈ lw_all := lw_g (lw_at lw_m5 124 rfl) rfl
theorem q1163 : (Jvm.Cond.superclass "SecondChancesModel" "java/lang/Object") ∈ lw_all := lw_g (lw_at lw_m5 125 rfl) rfl
theorem q1165 : (Jvm.Cond.instanceMethod ({ cls := "SecondChancesModel", name := "type", desc := "(II)I" } : Jvm.MethodName)) ∈ lw_all := lw_g (lw_at lw_m5 127 rfl) rfl
theorem q1166 : (Jvm.Cond.selects "SecondChancesModel" ({ cls := "SecondChancesModel", name := "type", desc := "(II)I" } : Jvm.MethodName) ({ cls := "SecondChancesModel", name := "type", desc := "(II)I" } : Jvm.MethodName)) ∈ lw_all := lw_g (lw_at lw_m5 128 rfl) rfl
theorem q1167 : (Jvm.Cond.code ({ cls := "SecondChancesModel", name := "type", desc := "(II)I" } : Jvm.MethodName) prog_11_method_9_code (3 : Nat) (Option.some Jvm.ClassFile.FieldType.int)) ∈ lw_all := lw_g (lw_at lw_m5 129 rfl) rfl
theorem q1168 : (Jvm.Cond.methodLink "SecondChancesModel" (103 : Nat) ({ cls := "SecondChancesModel", name := "in", desc := "(III)Z" } : Jvm.MethodName)) ∈ lw_all := lw_g (lw_at lw_m5 130 rfl) rfl
theorem q1169 : (Jvm.Cond.static ({ cls := "SecondChancesModel", name := "in", desc := "(III)Z" } : Jvm.MethodName)) ∈ lw_all := lw_g (lw_at lw_m5 131 rfl) rfl
theorem q1170 : (Jvm.Cond.code ({ cls := "SecondChancesModel", name := "in", desc := "(III)Z" } : Jvm.MethodName) prog_11_method_3_code (3 : Nat) (Option.some Jvm.ClassFile.FieldType.boolean)) ∈ lw_all := lw_g (lw_at lw_m5 132 rfl) rfl
theorem q1172 : (Jvm.Cond.instanceMethod ({ cls := "SecondChancesModel", name := "wipe", desc := "(I)I" } : Jvm.MethodName)) ∈ lw_all := lw_g (lw_at lw_m5 134 rfl) rfl
theorem q1173 : (Jvm.Cond.selects "SecondChancesModel" ({ cls := "SecondChancesModel", name := "wipe", desc := "(I)I" } : Jvm.MethodName) ({ cls := "SecondChancesModel", name := "wipe", desc := "(I)I" } : Jvm.MethodName)) ∈ lw_all := lw_g (lw_at lw_m5 135 rfl) rfl
theorem q1174 : (Jvm.Cond.code ({ cls := "SecondChancesModel", name := "wipe", desc := "(I)I" } : Jvm.MethodName) prog_11_method_10_code (3 : Nat) (Option.some Jvm.ClassFile.FieldType.int)) ∈ lw_all := lw_g (lw_at lw_m5 136 rfl) rfl
theorem q1176 : (Jvm.Cond.instanceMethod ({ cls := "SecondChancesModel", name := "fault", desc := "(I)I" } : Jvm.MethodName)) ∈ lw_all := lw_g (lw_at lw_m5 138 rfl) rfl
theorem q1177 : (Jvm.Cond.selects "SecondChancesModel" ({ cls := "SecondChancesModel", name := "fault", desc := "(I)I" } : Jvm.MethodName) ({ cls := "SecondChancesModel", name := "fault", desc := "(I)I" } : Jvm.MethodName)) ∈ lw_all := lw_g (lw_at lw_m5 139 rfl) rfl
theorem q1178 : (Jvm.Cond.code ({ cls := "SecondChancesModel", name := "fault", desc := "(I)I" } : Jvm.MethodName) prog_11_method_18_code (2 : Nat) (Option.some Jvm.ClassFile.FieldType.int)) ∈ lw_all := lw_g (lw_at lw_m5 140 rfl) rfl
theorem q1179 : (Jvm.Cond.methodLink "SecondChancesModel" (136 : Nat) ({ cls := "SecondChancesModel", name := "faultOf", desc := "(I)I" } : Jvm.MethodName)) ∈ lw_all := lw_g (lw_at lw_m5 141 rfl) rfl
theorem q1180 : (Jvm.Cond.privateMethod ({ cls := "SecondChancesModel", name := "faultOf", desc := "(I)I" } : Jvm.MethodName)) ∈ lw_tbl := lw_at lw_m5 142 rfl
theorem q1181 : (Jvm.Cond.instanceMethod ({ cls := "SecondChancesModel", name := "faultOf", desc := "(I)I" } : Jvm.MethodName)) ∈ lw_all := lw_g (lw_at lw_m5 143 rfl) rfl
theorem q1182 : (Jvm.Cond.code ({ cls := "SecondChancesModel", name := "faultOf", desc := "(I)I" } : Jvm.MethodName) prog_11_method_16_code (3 : Nat) (Option.some Jvm.ClassFile.FieldType.int)) ∈ lw_all := lw_g (lw_at lw_m5 144 rfl) rfl
theorem q1183 : (Jvm.Cond.methodLink "SecondChancesModel" (129 : Nat) ({ cls := "SecondChancesModel", name := "readsDeeds", desc := "()I" } : Jvm.MethodName)) ∈ lw_all := lw_g (lw_at lw_m5 145 rfl) rfl
theorem q1184 : (Jvm.Cond.privateMethod ({ cls := "SecondChancesModel", name := "readsDeeds", desc := "()I" } : Jvm.MethodName)) ∈ lw_tbl := lw_at lw_m5 146 rfl
theorem q1185 : (Jvm.Cond.instanceMethod ({ cls := "SecondChancesModel", name := "readsDeeds", desc := "()I" } : Jvm.MethodName)) ∈ lw_all := lw_g (lw_at lw_m5 147 rfl) rfl
theorem q1186 : (Jvm.Cond.code ({ cls := "SecondChancesModel", name := "readsDeeds", desc := "()I" } : Jvm.MethodName) prog_11_method_13_code (5 : Nat) (Option.some Jvm.ClassFile.FieldType.int)) ∈ lw_all := lw_g (lw_at lw_m5 148 rfl) rfl
theorem q1187 : (Jvm.Cond.methodLink "SecondChancesModel" (111 : Nat) ({ cls := "SecondChancesModel", name := "byteAt", desc := "(II)I" } : Jvm.MethodName)) ∈ lw_all := lw_g (lw_at lw_m5 149 rfl) rfl
theorem q1188 : (Jvm.Cond.privateMethod ({ cls := "SecondChancesModel", name := "byteAt", desc := "(II)I" } : Jvm.MethodName)) ∈ lw_tbl := lw_at lw_m5 150 rfl
theorem q1189 : (Jvm.Cond.instanceMethod ({ cls := "SecondChancesModel", name := "byteAt", desc := "(II)I" } : Jvm.MethodName)) ∈ lw_all := lw_g (lw_at lw_m5 151 rfl) rfl
theorem q1190 : (Jvm.Cond.code ({ cls := "SecondChancesModel", name := "byteAt", desc := "(II)I" } : Jvm.MethodName) prog_11_method_11_code (3 : Nat) (Option.some Jvm.ClassFile.FieldType.int)) ∈ lw_all := lw_g (lw_at lw_m5 152 rfl) rfl
theorem q1191 : (Jvm.Cond.methodLink "SecondChancesModel" (115 : Nat) ({ cls := "SecondChancesModel", name := "kindBy", desc := "(I)I" } : Jvm.MethodName)) ∈ lw_all := lw_g (lw_at lw_m5 153 rfl) rfl
theorem q1192 : (Jvm.Cond.static ({ cls := "SecondChancesModel", name := "kindBy", desc := "(I)I" } : Jvm.MethodName)) ∈ lw_all := lw_g (lw_at lw_m5 154 rfl) rfl
theorem q1193 : (Jvm.Cond.code ({ cls := "SecondChancesModel", name := "kindBy", desc := "(I)I" } : Jvm.MethodName) prog_11_method_12_code (1 : Nat) (Option.some Jvm.ClassFile.FieldType.int)) ∈ lw_all := lw_g (lw_at lw_m5 155 rfl) rfl
theorem q1194 : (Jvm.Cond.methodLink "SecondChancesModel" (119 : Nat) ({ cls := "SecondChancesModel", name := "isIn", desc := "(II)Z" } : Jvm.MethodName)) ∈ lw_all := lw_g (lw_at lw_m5 156 rfl) rfl
theorem q1195 : (Jvm.Cond.static ({ cls := "SecondChancesModel", name := "isIn", desc := "(II)Z" } : Jvm.MethodName)) ∈ lw_all := lw_g (lw_at lw_m5 157 rfl) rfl
theorem q1196 : (Jvm.Cond.code ({ cls := "SecondChancesModel", name := "isIn", desc := "(II)Z" } : Jvm.MethodName) prog_11_method_4_code (2 : Nat) (Option.some Jvm.ClassFile.FieldType.boolean)) ∈ lw_all := lw_g (lw_at lw_m5 158 rfl) rfl
theorem q1197 : (Jvm.Cond.methodLink "SecondChancesModel" (133 : Nat) ({ cls := "SecondChancesModel", name := "readsRules", desc := "()I" } : Jvm.MethodName)) ∈ lw_all := lw_g (lw_at lw_m5 159 rfl) rfl
theorem q1198 : (Jvm.Cond.privateMethod ({ cls := "SecondChancesModel", name := "readsRules", desc := "()I" } : Jvm.MethodName)) ∈ lw_tbl := lw_at lw_m5 160 rfl
theorem q1199 : (Jvm.Cond.instanceMethod ({ cls := "SecondChancesModel", name := "readsRules", desc := "()I" } : Jvm.MethodName)) ∈ lw_all := lw_g (lw_at lw_m5 161 rfl) rfl
theorem q1200 : (Jvm.Cond.code ({ cls := "SecondChancesModel", name := "readsRules", desc := "()I" } : Jvm.MethodName) prog_11_method_15_code (3 : Nat) (Option.some Jvm.ClassFile.FieldType.int)) ∈ lw_all := lw_g (lw_at lw_m5 162 rfl) rfl
theorem q1201 : (Jvm.Cond.methodLink "SecondChancesModel" (126 : Nat) ({ cls := "SecondChancesModel", name := "noRules", desc := "()V" } : Jvm.MethodName)) ∈ lw_all := lw_g (lw_at lw_m5 163 rfl) rfl
theorem q1202 : (Jvm.Cond.privateMethod ({ cls := "SecondChancesModel", name := "noRules", desc := "()V" } : Jvm.MethodName)) ∈ lw_tbl := lw_at lw_m5 164 rfl
theorem q1203 : (Jvm.Cond.instanceMethod ({ cls := "SecondChancesModel", name := "noRules", desc := "()V" } : Jvm.MethodName)) ∈ lw_all := lw_g (lw_at lw_m5 165 rfl) rfl
theorem q1204 : (Jvm.Cond.code ({ cls := "SecondChancesModel", name := "noRules", desc := "()V" } : Jvm.MethodName) prog_11_method_14_code (2 : Nat) (Option.none : Option Jvm.ClassFile.FieldType)) ∈ lw_all := lw_g (lw_at lw_m5 166 rfl) rfl
theorem q1206 : (Jvm.Cond.instanceMethod ({ cls := "SecondChancesModel", name := "deed", desc := "(II)I" } : Jvm.MethodName)) ∈ lw_all := lw_g (lw_at lw_m5 168 rfl) rfl
theorem q1207 : (Jvm.Cond.selects "SecondChancesModel" ({ cls := "SecondChancesModel", name := "deed", desc := "(II)I" } : Jvm.MethodName) ({ cls := "SecondChancesModel", name := "deed", desc := "(II)I" } : Jvm.MethodName)) ∈ lw_all := lw_g (lw_at lw_m5 169 rfl) rfl
theorem q1208 : (Jvm.Cond.code ({ cls := "SecondChancesModel", name := "deed", desc := "(II)I" } : Jvm.MethodName) prog_11_method_21_code (3 : Nat) (Option.some Jvm.ClassFile.FieldType.int)) ∈ lw_all := lw_g (lw_at lw_m5 170 rfl) rfl
theorem q1209 : (Jvm.Cond.methodLink "SecondChancesModel" (142 : Nat) ({ cls := "SecondChancesModel", name := "isDeed", desc := "(I)Z" } : Jvm.MethodName)) ∈ lw_all := lw_g (lw_at lw_m5 171 rfl) rfl
theorem q1210 : (Jvm.Cond.privateMethod ({ cls := "SecondChancesModel", name := "isDeed", desc := "(I)Z" } : Jvm.MethodName)) ∈ lw_tbl := lw_at lw_m5 172 rfl
theorem q1211 : (Jvm.Cond.instanceMethod ({ cls := "SecondChancesModel", name := "isDeed", desc := "(I)Z" } : Jvm.MethodName)) ∈ lw_all := lw_g (lw_at lw_m5 173 rfl) rfl
theorem q1212 : (Jvm.Cond.code ({ cls := "SecondChancesModel", name := "isDeed", desc := "(I)Z" } : Jvm.MethodName) prog_11_method_19_code (2 : Nat) (Option.some Jvm.ClassFile.FieldType.boolean)) ∈ lw_all := lw_g (lw_at lw_m5 174 rfl) rfl
theorem q1213 : (Jvm.Cond.methodLink "SecondChancesModel" (139 : Nat) ({ cls := "SecondChancesModel", name := "reads", desc := "()V" } : Jvm.MethodName)) ∈ lw_all := lw_g (lw_at lw_m5 175 rfl) rfl
theorem q1214 : (Jvm.Cond.privateMethod ({ cls := "SecondChancesModel", name := "reads", desc := "()V" } : Jvm.MethodName)) ∈ lw_tbl := lw_at lw_m5 176 rfl
theorem q1215 : (Jvm.Cond.instanceMethod ({ cls := "SecondChancesModel", name := "reads", desc := "()V" } : Jvm.MethodName)) ∈ lw_all := lw_g (lw_at lw_m5 177 rfl) rfl
theorem q1216 : (Jvm.Cond.code ({ cls := "SecondChancesModel", name := "reads", desc := "()V" } : Jvm.MethodName) prog_11_method_17_code (2 : Nat) (Option.none : Option Jvm.ClassFile.FieldType)) ∈ lw_all := lw_g (lw_at lw_m5 178 rfl) rfl
theorem q1217 : (Jvm.Cond.methodLink "SecondChancesModel" (146 : Nat) ({ cls := "SecondChancesModel", name := "deedOf", desc := "(II)I" } : Jvm.MethodName)) ∈ lw_all := lw_g (lw_at lw_m5 179 rfl) rfl
theorem q1218 : (Jvm.Cond.privateMethod ({ cls := "SecondChancesModel", name := "deedOf", desc := "(II)I" } : Jvm.MethodName)) ∈ lw_tbl := lw_at lw_m5 180 rfl
theorem q1219 : (Jvm.Cond.instanceMethod ({ cls := "SecondChancesModel", name := "deedOf", desc := "(II)I" } : Jvm.MethodName)) ∈ lw_all := lw_g (lw_at lw_m5 181 rfl) rfl
theorem q1220 : (Jvm.Cond.code ({ cls := "SecondChancesModel", name := "deedOf", desc := "(II)I" } : Jvm.MethodName) prog_11_method_20_code (3 : Nat) (Option.some Jvm.ClassFile.FieldType.int)) ∈ lw_all := lw_g (lw_at lw_m5 182 rfl) rfl
theorem q1222 : (Jvm.Cond.instanceMethod ({ cls := "SecondChancesModel", name := "rule", desc := "(II)I" } : Jvm.MethodName)) ∈ lw_all := lw_g (lw_at lw_m5 184 rfl) rfl
theorem q1223 : (Jvm.Cond.selects "SecondChancesModel" ({ cls := "SecondChancesModel", name := "rule", desc := "(II)I" } : Jvm.MethodName) ({ cls := "SecondChancesModel", name := "rule", desc := "(II)I" } : Jvm.MethodName)) ∈ lw_all := lw_g (lw_at lw_m5 185 rfl) rfl
theorem q1224 : (Jvm.Cond.code ({ cls := "SecondChancesModel", name := "rule", desc := "(II)I" } : Jvm.MethodName) prog_11_method_23_code (3 : Nat) (Option.some Jvm.ClassFile.FieldType.int)) ∈ lw_all := lw_g (lw_at lw_m5 186 rfl) rfl
theorem q1225 : (Jvm.Cond.methodLink "SecondChancesModel" (149 : Nat) ({ cls := "SecondChancesModel", name := "ruleOf", desc := "(II)I" } : Jvm.MethodName)) ∈ lw_all := lw_g (lw_at lw_m5 187 rfl) rfl
theorem q1226 : (Jvm.Cond.privateMethod ({ cls := "SecondChancesModel", name := "ruleOf", desc := "(II)I" } : Jvm.MethodName)) ∈ lw_tbl := lw_at lw_m5 188 rfl
theorem q1227 : (Jvm.Cond.instanceMethod ({ cls := "SecondChancesModel", name := "ruleOf", desc := "(II)I" } : Jvm.MethodName)) ∈ lw_all := lw_g (lw_at lw_m5 189 rfl) rfl
theorem q1228 : (Jvm.Cond.code ({ cls := "SecondChancesModel", name := "ruleOf", desc := "(II)I" } : Jvm.MethodName) prog_11_method_22_code (3 : Nat) (Option.some Jvm.ClassFile.FieldType.int)) ∈ lw_all := lw_g (lw_at lw_m5 190 rfl) rfl
theorem q1230 : (Jvm.Cond.instanceMethod ({ cls := "SecondChancesModel", name := "person", desc := "(III)I" } : Jvm.MethodName)) ∈ lw_all := lw_g (lw_at lw_m5 192 rfl) rfl
theorem q1231 : (Jvm.Cond.selects "SecondChancesModel" ({ cls := "SecondChancesModel", name := "person", desc := "(III)I" } : Jvm.MethodName) ({ cls := "SecondChancesModel", name := "person", desc := "(III)I" } : Jvm.MethodName)) ∈ lw_all := lw_g (lw_at lw_m5 193 rfl) rfl
theorem q1232 : (Jvm.Cond.code ({ cls := "SecondChancesModel", name := "person", desc := "(III)I" } : Jvm.MethodName) prog_11_method_26_code (5 : Nat) (Option.some Jvm.ClassFile.FieldType.int)) ∈ lw_all := lw_g (lw_at lw_m5 194 rfl) rfl
theorem q1233 : (Jvm.Cond.methodLink "SecondChancesModel" (152 : Nat) ({ cls := "SecondChancesModel", name := "isPerson", desc := "(I)Z" } : Jvm.MethodName)) ∈ lw_all := lw_g (lw_at lw_m5 195 rfl) rfl
theorem q1234 : (Jvm.Cond.static ({ cls := "SecondChancesModel", name := "isPerson", desc := "(I)Z" } : Jvm.MethodName)) ∈ lw_all := lw_g (lw_at lw_m5 196 rfl) rfl
theorem q1235 : (Jvm.Cond.code ({ cls := "SecondChancesModel", name := "isPerson", desc := "(I)Z" } : Jvm.MethodName) prog_11_method_24_code (1 : Nat) (Option.some Jvm.ClassFile.FieldType.boolean)) ∈ lw_all := lw_g (lw_at lw_m5 197 rfl) rfl
theorem q1237 : (Jvm.Cond.instanceMethod ({ cls := "SecondChancesModel", name := "weather", desc := "(II)I" } : Jvm.MethodName)) ∈ lw_all := lw_g (lw_at lw_m5 199 rfl) rfl
theorem q1238 : (Jvm.Cond.selects "SecondChancesModel" ({ cls := "SecondChancesModel", name := "weather", desc := "(II)I" } : Jvm.MethodName) ({ cls := "SecondChancesModel", name := "weather", desc := "(II)I" } : Jvm.MethodName)) ∈ lw_all := lw_g (lw_at lw_m5 200 rfl) rfl
theorem q1239 : (Jvm.Cond.code ({ cls := "SecondChancesModel", name := "weather", desc := "(II)I" } : Jvm.MethodName) prog_11_method_27_code (4 : Nat) (Option.some Jvm.ClassFile.FieldType.int)) ∈ lw_all := lw_g (lw_at lw_m5 201 rfl) rfl
theorem q1240 : (Jvm.Cond.methodLink "SecondChancesModel" (155 : Nat) ({ cls := "SecondChancesModel", name := "isHour", desc := "(I)Z" } : Jvm.MethodName)) ∈ lw_all := lw_g (lw_at lw_m5 202 rfl) rfl
theorem q1241 : (Jvm.Cond.static ({ cls := "SecondChancesModel", name := "isHour", desc := "(I)Z" } : Jvm.MethodName)) ∈ lw_all := lw_g (lw_at lw_m5 203 rfl) rfl
theorem q1242 : (Jvm.Cond.code ({ cls := "SecondChancesModel", name := "isHour", desc := "(I)Z" } : Jvm.MethodName) prog_11_method_25_code (1 : Nat) (Option.some Jvm.ClassFile.FieldType.boolean)) ∈ lw_all := lw_g (lw_at lw_m5 204 rfl) rfl
theorem q1244 : (Jvm.Cond.instanceMethod ({ cls := "SecondChancesModel", name := "set", desc := "(II)I" } : Jvm.MethodName)) ∈ lw_all := lw_g (lw_at lw_m5 206 rfl) rfl
theorem q1245 : (Jvm.Cond.selects "SecondChancesModel" ({ cls := "SecondChancesModel", name := "set", desc := "(II)I" } : Jvm.MethodName) ({ cls := "SecondChancesModel", name := "set", desc := "(II)I" } : Jvm.MethodName)) ∈ lw_all := lw_g (lw_at lw_m5 207 rfl) rfl
theorem q1246 : (Jvm.Cond.code ({ cls := "SecondChancesModel", name := "set", desc := "(II)I" } : Jvm.MethodName) prog_11_method_28_code (4 : Nat) (Option.some Jvm.ClassFile.FieldType.int)) ∈ lw_all := lw_g (lw_at lw_m5 208 rfl) rfl
theorem q1248 : (Jvm.Cond.instanceMethod ({ cls := "SecondChancesModel", name := "read", desc := "(I)I" } : Jvm.MethodName)) ∈ lw_all := lw_g (lw_at lw_m5 210 rfl) rfl
theorem q1249 : (Jvm.Cond.selects "SecondChancesModel" ({ cls := "SecondChancesModel", name := "read", desc := "(I)I" } : Jvm.MethodName) ({ cls := "SecondChancesModel", name := "read", desc := "(I)I" } : Jvm.MethodName)) ∈ lw_all := lw_g (lw_at lw_m5 211 rfl) rfl
theorem q1250 : (Jvm.Cond.code ({ cls := "SecondChancesModel", name := "read", desc := "(I)I" } : Jvm.MethodName) prog_11_method_29_code (3 : Nat) (Option.some Jvm.ClassFile.FieldType.int)) ∈ lw_all := lw_g (lw_at lw_m5 212 rfl) rfl
theorem q1251 : (Jvm.Cond.methodLink "SecondChancesModel" (158 : Nat) ({ cls := "SecondChancesModel", name := "isSheet", desc := "(I)Z" } : Jvm.MethodName)) ∈ lw_all := lw_g (lw_at lw_m5 213 rfl) rfl
theorem q1252 : (Jvm.Cond.static ({ cls := "SecondChancesModel", name := "isSheet", desc := "(I)Z" } : Jvm.MethodName)) ∈ lw_all := lw_g (lw_at lw_m5 214 rfl) rfl
theorem q1253 : (Jvm.Cond.code ({ cls := "SecondChancesModel", name := "isSheet", desc := "(I)Z" } : Jvm.MethodName) prog_11_method_74_code (1 : Nat) (Option.some Jvm.ClassFile.FieldType.boolean)) ∈ lw_all := lw_g (lw_at lw_m5 215 rfl) rfl
theorem q1254 : (Jvm.Cond.methodLink "SecondChancesModel" (161 : Nat) ({ cls := "SecondChancesModel", name := "meets", desc := "(I)I" } : Jvm.MethodName)) ∈ lw_all := lw_g (lw_at lw_m5 216 rfl) rfl
theorem q1255 : (Jvm.Cond.privateMethod ({ cls := "SecondChancesModel", name := "meets", desc := "(I)I" } : Jvm.MethodName)) ∈ lw_tbl := lw_at lw_m5 217 rfl
theorem q1256 : (Jvm.Cond.instanceMethod ({ cls := "SecondChancesModel", name := "meets", desc := "(I)I" } : Jvm.MethodName)) ∈ lw_all := lw_g (lw_at lw_m5 218 rfl) rfl
theorem q1257 : (Jvm.Cond.code ({ cls := "SecondChancesModel", name := "meets", desc := "(I)I" } : Jvm.MethodName) prog_11_method_73_code (2 : Nat) (Option.some Jvm.ClassFile.FieldType.int)) ∈ lw_all := lw_g (lw_at lw_m5 219 rfl) rfl
theorem q1259 : (Jvm.Cond.instanceMethod ({ cls := "SecondChancesModel", name := "can", desc := "(II)I" } : Jvm.MethodName)) ∈ lw_all := lw_g (lw_at lw_m5 221 rfl) rfl
theorem q1260 : (Jvm.Cond.selects "SecondChancesModel" ({ cls := "SecondChancesModel", name := "can", desc := "(II)I" } : Jvm.MethodName) ({ cls := "SecondChancesModel", name := "can", desc := "(II)I" } : Jvm.MethodName)) ∈ lw_all := lw_g (lw_at lw_m5 222 rfl) rfl
theorem q1261 : (Jvm.Cond.code ({ cls := "SecondChancesModel", name := "can", desc := "(II)I" } : Jvm.MethodName) prog_11_method_34_code (3 : Nat) (Option.some Jvm.ClassFile.FieldType.int)) ∈ lw_all := lw_g (lw_at lw_m5 223 rfl) rfl
theorem q1262 : (Jvm.Cond.methodLink "SecondChancesModel" (176 : Nat) ({ cls := "SecondChancesModel", name := "canOf", desc := "(II)I" } : Jvm.MethodName)) ∈ lw_all := lw_g (lw_at lw_m5 224 rfl) rfl
theorem q1263 : (Jvm.Cond.privateMethod ({ cls := "SecondChancesModel", name := "canOf", desc := "(II)I" } : Jvm.MethodName)) ∈ lw_tbl := lw_at lw_m5 225 rfl
theorem q1264 : (Jvm.Cond.instanceMethod ({ cls := "SecondChancesModel", name := "canOf", desc := "(II)I" } : Jvm.MethodName)) ∈ lw_all := lw_g (lw_at lw_m5 226 rfl) rfl
theorem q1265 : (Jvm.Cond.code ({ cls := "SecondChancesModel", name := "canOf", desc := "(II)I" } : Jvm.MethodName) prog_11_method_33_code (3 : Nat) (Option.some Jvm.ClassFile.FieldType.int)) ∈ lw_all := lw_g (lw_at lw_m5 227 rfl) rfl
theorem q1266 : (Jvm.Cond.methodLink "SecondChancesModel" (173 : Nat) ({ cls := "SecondChancesModel", name := "comesOf", desc := "(II)I" } : Jvm.MethodName)) ∈ lw_all := lw_g (lw_at lw_m5 228 rfl) rfl
theorem q1267 : (Jvm.Cond.privateMethod ({ cls := "SecondChancesModel", name := "comesOf", desc := "(II)I" } : Jvm.MethodName)) ∈ lw_tbl := lw_at lw_m5 229 rfl
theorem q1268 : (Jvm.Cond.instanceMethod ({ cls := "SecondChancesModel", name := "comesOf", desc := "(II)I" } : Jvm.MethodName)) ∈ lw_all := lw_g (lw_at lw_m5 230 rfl) rfl
theorem q1269 : (Jvm.Cond.code ({ cls := "SecondChancesModel", name := "comesOf", desc := "(II)I" } : Jvm.MethodName) prog_11_method_32_code (8 : Nat) (Option.some Jvm.ClassFile.FieldType.int)) ∈ lw_all := lw_g (lw_at lw_m5 231 rfl) rfl
theorem q1270 : (Jvm.Cond.methodLink "SecondChancesModel" (167 : Nat) ({ cls := "SecondChancesModel", name := "isTurned", desc := "(II)Z" } : Jvm.MethodName)) ∈ lw_all := lw_g (lw_at lw_m5 232 rfl) rfl
theorem q1271 : (Jvm.Cond.privateMethod ({ cls := "SecondChancesModel", name := "isTurned", desc := "(II)Z" } : Jvm.MethodName)) ∈ lw_tbl := lw_at lw_m5 233 rfl
theorem q1272 : (Jvm.Cond.instanceMethod ({ cls := "SecondChancesModel", name := "isTurned", desc := "(II)Z" } : Jvm.MethodName)) ∈ lw_all := lw_g (lw_at lw_m5 234 rfl) rfl
theorem q1273 : (Jvm.Cond.code ({ cls := "SecondChancesModel", name := "isTurned", desc := "(II)Z" } : Jvm.MethodName) prog_11_method_31_code (3 : Nat) (Option.some Jvm.ClassFile.FieldType.boolean)) ∈ lw_all := lw_g (lw_at lw_m5 235 rfl) rfl
theorem q1274 : (Jvm.Cond.methodLink "SecondChancesModel" (170 : Nat) ({ cls := "SecondChancesModel", name := "needs", desc := "(I)I" } : Jvm.MethodName)) ∈ lw_all := lw_g (lw_at lw_m5 236 rfl) rfl
theorem q1275 : (Jvm.Cond.privateMethod ({ cls := "SecondChancesModel", name := "needs", desc := "(I)I" } : Jvm.MethodName)) ∈ lw_tbl := lw_at lw_m5 237 rfl
theorem q1276 : (Jvm.Cond.instanceMethod ({ cls := "SecondChancesModel", name := "needs", desc := "(I)I" } : Jvm.MethodName)) ∈ lw_all := lw_g (lw_at lw_m5 238 rfl) rfl
theorem q1277 : (Jvm.Cond.code ({ cls := "SecondChancesModel", name := "needs", desc := "(I)I" } : Jvm.MethodName) prog_11_method_30_code (3 : Nat) (Option.some Jvm.ClassFile.FieldType.int)) ∈ lw_all := lw_g (lw_at lw_m5 239 rfl) rfl
theorem q1278 : (Jvm.Cond.methodLink "SecondChancesModel" (164 : Nat) ({ cls := "SecondChancesModel", name := "ones", desc := "(I)I" } : Jvm.MethodName)) ∈ lw_all := lw_g (lw_at lw_m6 0 rfl) rfl
theorem q1279 : (Jvm.Cond.static ({ cls := "SecondChancesModel", name := "ones", desc := "(I)I" } : Jvm.MethodName)) ∈ lw_all := lw_g (lw_at lw_m6 1 rfl) rfl
theorem q1280 : (Jvm.Cond.code ({ cls := "SecondChancesModel", name := "ones", desc := "(I)I" } : Jvm.MethodName) prog_11_method_5_code (3 : Nat) (Option.some Jvm.ClassFile.FieldType.int)) ∈ lw_all := lw_g (lw_at lw_m6 2 rfl) rfl
theorem q1282 : (Jvm.Cond.instanceMethod ({ cls := "SecondChancesModel", name := "hours", desc := "(I)I" } : Jvm.MethodName)) ∈ lw_all := lw_g (lw_at lw_m6 4 rfl) rfl
theorem q1283 : (Jvm.Cond.selects "SecondChancesModel" ({ cls := "SecondChancesModel", name := "hours", desc := "(I)I" } : Jvm.MethodName) ({ cls := "SecondChancesModel", name := "hours", desc := "(I)I" } : Jvm.MethodName)) ∈ lw_all := lw_g (lw_at lw_m6 5 rfl) rfl
theorem q1284 : (Jvm.Cond.code ({ cls := "SecondChancesModel", name := "hours", desc := "(I)I" } : Jvm.MethodName) prog_11_method_36_code (2 : Nat) (Option.some Jvm.ClassFile.FieldType.int)) ∈ lw_all := lw_g (lw_at lw_m6 6 rfl) rfl
theorem q1285 : (Jvm.Cond.methodLink "SecondChancesModel" (179 : Nat) ({ cls := "SecondChancesModel", name := "hoursOf", desc := "(I)I" } : Jvm.MethodName)) ∈ lw_all := lw_g (lw_at lw_m6 7 rfl) rfl
theorem q1286 : (Jvm.Cond.privateMethod ({ cls := "SecondChancesModel", name := "hoursOf", desc := "(I)I" } : Jvm.MethodName)) ∈ lw_tbl := lw_at lw_m6 8 rfl
theorem q1287 : (Jvm.Cond.instanceMethod ({ cls := "SecondChancesModel", name := "hoursOf", desc := "(I)I" } : Jvm.MethodName)) ∈ lw_all := lw_g (lw_at lw_m6 9 rfl) rfl
theorem q1288 : (Jvm.Cond.code ({ cls := "SecondChancesModel", name := "hoursOf", desc := "(I)I" } : Jvm.MethodName) prog_11_method_35_code (4 : Nat) (Option.some Jvm.ClassFile.FieldType.int)) ∈ lw_all := lw_g (lw_at lw_m6 10 rfl) rfl
theorem q1290 : (Jvm.Cond.instanceMethod ({ cls := "SecondChancesModel", name := "comes", desc := "(II)I" } : Jvm.MethodName)) ∈ lw_all := lw_g (lw_at lw_m6 12 rfl) rfl
theorem q1291 : (Jvm.Cond.selects "SecondChancesModel" ({ cls := "SecondChancesModel", name := "comes", desc := "(II)I" } : Jvm.MethodName) ({ cls := "SecondChancesModel", name := "comes", desc := "(II)I" } : Jvm.MethodName)) ∈ lw_all := lw_g (lw_at lw_m6 13 rfl) rfl
theorem q1292 : (Jvm.Cond.code ({ cls := "SecondChancesModel", name := "comes", desc := "(II)I" } : Jvm.MethodName) prog_11_method_37_code (3 : Nat) (Option.some Jvm.ClassFile.FieldType.int)) ∈ lw_all := lw_g (lw_at lw_m6 14 rfl) rfl
theorem q1294 : (Jvm.Cond.instanceMethod ({ cls := "SecondChancesModel", name := "costs", desc := "(II)I" } : Jvm.MethodName)) ∈ lw_all := lw_g (lw_at lw_m6 16 rfl) rfl
theorem q1295 : (Jvm.Cond.selects "SecondChancesModel" ({ cls := "SecondChancesModel", name := "costs", desc := "(II)I" } : Jvm.MethodName) ({ cls := "SecondChancesModel", name := "costs", desc := "(II)I" } : Jvm.MethodName)) ∈ lw_all := lw_g (lw_at lw_m6 17 rfl) rfl
theorem q1296 : (Jvm.Cond.code ({ cls := "SecondChancesModel", name := "costs", desc := "(II)I" } : Jvm.MethodName) prog_11_method_40_code (3 : Nat) (Option.some Jvm.ClassFile.FieldType.int)) ∈ lw_all := lw_g (lw_at lw_m6 18 rfl) rfl
theorem q1297 : (Jvm.Cond.methodLink "SecondChancesModel" (185 : Nat) ({ cls := "SecondChancesModel", name := "costsOf", desc := "(II)I" } : Jvm.MethodName)) ∈ lw_all := lw_g (lw_at lw_m6 19 rfl) rfl
theorem q1298 : (Jvm.Cond.privateMethod ({ cls := "SecondChancesModel", name := "costsOf", desc := "(II)I" } : Jvm.MethodName)) ∈ lw_tbl := lw_at lw_m6 20 rfl
theorem q1299 : (Jvm.Cond.instanceMethod ({ cls := "SecondChancesModel", name := "costsOf", desc := "(II)I" } : Jvm.MethodName)) ∈ lw_all := lw_g (lw_at lw_m6 21 rfl) rfl
theorem q1300 : (Jvm.Cond.code ({ cls := "SecondChancesModel", name := "costsOf", desc := "(II)I" } : Jvm.MethodName) prog_11_method_39_code (4 : Nat) (Option.some Jvm.ClassFile.FieldType.int)) ∈ lw_all := lw_g (lw_at lw_m6 22 rfl) rfl
theorem q1301 : (Jvm.Cond.methodLink "SecondChancesModel" (182 : Nat) ({ cls := "SecondChancesModel", name := "pricesOf", desc := "(I)I" } : Jvm.MethodName)) ∈ lw_all := lw_g (lw_at lw_m6 23 rfl) rfl
theorem q1302 : (Jvm.Cond.privateMethod ({ cls := "SecondChancesModel", name := "pricesOf", desc := "(I)I" } : Jvm.MethodName)) ∈ lw_tbl := lw_at lw_m6 24 rfl
theorem q1303 : (Jvm.Cond.instanceMethod ({ cls := "SecondChancesModel", name := "pricesOf", desc := "(I)I" } : Jvm.MethodName)) ∈ lw_all := lw_g (lw_at lw_m6 25 rfl) rfl
theorem q1304 : (Jvm.Cond.code ({ cls := "SecondChancesModel", name := "pricesOf", desc := "(I)I" } : Jvm.MethodName) prog_11_method_38_code (4 : Nat) (Option.some Jvm.ClassFile.FieldType.int)) ∈ lw_all := lw_g (lw_at lw_m6 26 rfl) rfl
theorem q1306 : (Jvm.Cond.instanceMethod ({ cls := "SecondChancesModel", name := "most", desc := "(I)I" } : Jvm.MethodName)) ∈ lw_all := lw_g (lw_at lw_m6 28 rfl) rfl
theorem q1307 : (Jvm.Cond.selects "SecondChancesModel" ({ cls := "SecondChancesModel", name := "most", desc := "(I)I" } : Jvm.MethodName) ({ cls := "SecondChancesModel", name := "most", desc := "(I)I" } : Jvm.MethodName)) ∈ lw_all := lw_g (lw_at lw_m6 29 rfl) rfl
theorem q1308 : (Jvm.Cond.code ({ cls := "SecondChancesModel", name := "most", desc := "(I)I" } : Jvm.MethodName) prog_11_method_45_code (2 : Nat) (Option.some Jvm.ClassFile.FieldType.int)) ∈ lw_all := lw_g (lw_at lw_m6 30 rfl) rfl
theorem q1309 : (Jvm.Cond.methodLink "SecondChancesModel" (211 : Nat) ({ cls := "SecondChancesModel", name := "laysMost", desc := "()V" } : Jvm.MethodName)) ∈ lw_all := lw_g (lw_at lw_m6 31 rfl) rfl
theorem q1310 : (Jvm.Cond.privateMethod ({ cls := "SecondChancesModel", name := "laysMost", desc := "()V" } : Jvm.MethodName)) ∈ lw_tbl := lw_at lw_m6 32 rfl
theorem q1311 : (Jvm.Cond.instanceMethod ({ cls := "SecondChancesModel", name := "laysMost", desc := "()V" } : Jvm.MethodName)) ∈ lw_all := lw_g (lw_at lw_m6 33 rfl) rfl
theorem q1312 : (Jvm.Cond.code ({ cls := "SecondChancesModel", name := "laysMost", desc := "()V" } : Jvm.MethodName) prog_11_method_44_code (3 : Nat) (Option.none : Option Jvm.ClassFile.FieldType)) ∈ lw_all := lw_g (lw_at lw_m6 34 rfl) rfl
theorem q1313 : (Jvm.Cond.methodLink "SecondChancesModel" (198 : Nat) ({ cls := "SecondChancesModel", name := "costTogether", desc := "(II)I" } : Jvm.MethodName)) ∈ lw_all := lw_g (lw_at lw_m6 35 rfl) rfl
theorem q1314 : (Jvm.Cond.privateMethod ({ cls := "SecondChancesModel", name := "costTogether", desc := "(II)I" } : Jvm.MethodName)) ∈ lw_tbl := lw_at lw_m6 36 rfl
theorem q1315 : (Jvm.Cond.instanceMethod ({ cls := "SecondChancesModel", name := "costTogether", desc := "(II)I" } : Jvm.MethodName)) ∈ lw_all := lw_g (lw_at lw_m6 37 rfl) rfl
theorem q1316 : (Jvm.Cond.code ({ cls := "SecondChancesModel", name := "costTogether", desc := "(II)I" } : Jvm.MethodName) prog_11_method_41_code (11 : Nat) (Option.some Jvm.ClassFile.FieldType.int)) ∈ lw_all := lw_g (lw_at lw_m6 38 rfl) rfl
theorem q1317 : (Jvm.Cond.constant "SecondChancesModel" (188 : Nat) (1000000 : Int32)) ∈ lw_all := lw_g (lw_at lw_m6 39 rfl) rfl
theorem q1318 : (Jvm.Cond.methodLink "SecondChancesModel" (201 : Nat) ({ cls := "SecondChancesModel", name := "bestOf", desc := "(I)V" } : Jvm.MethodName)) ∈ lw_all := lw_g (lw_at lw_m6 40 rfl) rfl
theorem q1319 : (Jvm.Cond.privateMethod ({ cls := "SecondChancesModel", name := "bestOf", desc := "(I)V" } : Jvm.MethodName)) ∈ lw_tbl := lw_at lw_m6 41 rfl
theorem q1320 : (Jvm.Cond.instanceMethod ({ cls := "SecondChancesModel", name := "bestOf", desc := "(I)V" } : Jvm.MethodName)) ∈ lw_all := lw_g (lw_at lw_m6 42 rfl) rfl
theorem q1321 : (Jvm.Cond.code ({ cls := "SecondChancesModel", name := "bestOf", desc := "(I)V" } : Jvm.MethodName) prog_11_method_43_code (10 : Nat) (Option.none : Option Jvm.ClassFile.FieldType)) ∈ lw_all := lw_g (lw_at lw_m6 43 rfl) rfl
theorem q1322 : (Jvm.Cond.methodLink "SecondChancesModel" (195 : Nat) ({ cls := "SecondChancesModel", name := "worthBy", desc := "(I)I" } : Jvm.MethodName)) ∈ lw_all := lw_g (lw_at lw_m6 44 rfl) rfl
theorem q1323 : (Jvm.Cond.privateMethod ({ cls := "SecondChancesModel", name := "worthBy", desc := "(I)I" } : Jvm.MethodName)) ∈ lw_tbl := lw_at lw_m6 45 rfl
theorem q1324 : (Jvm.Cond.instanceMethod ({ cls := "SecondChancesModel", name := "worthBy", desc := "(I)I" } : Jvm.MethodName)) ∈ lw_all := lw_g (lw_at lw_m6 46 rfl) rfl
theorem q1325 : (Jvm.Cond.code ({ cls := "SecondChancesModel", name := "worthBy", desc := "(I)I" } : Jvm.MethodName) prog_11_method_42_code (4 : Nat) (Option.some Jvm.ClassFile.FieldType.int)) ∈ lw_all := lw_g (lw_at lw_m6 47 rfl) rfl
theorem q1327 : (Jvm.Cond.instanceMethod ({ cls := "SecondChancesModel", name := "when", desc := "(I)I" } : Jvm.MethodName)) ∈ lw_all := lw_g (lw_at lw_m6 49 rfl) rfl
theorem q1328 : (Jvm.Cond.selects "SecondChancesModel" ({ cls := "SecondChancesModel", name := "when", desc := "(I)I" } : Jvm.MethodName) ({ cls := "SecondChancesModel", name := "when", desc := "(I)I" } : Jvm.MethodName)) ∈ lw_all := lw_g (lw_at lw_m6 50 rfl) rfl
theorem q1329 : (Jvm.Cond.code ({ cls := "SecondChancesModel", name := "when", desc := "(I)I" } : Jvm.MethodName) prog_11_method_46_code (2 : Nat) (Option.some Jvm.ClassFile.FieldType.int)) ∈ lw_all := lw_g (lw_at lw_m6 51 rfl) rfl
theorem q1331 : (Jvm.Cond.instanceMethod ({ cls := "SecondChancesModel", name := "plan", desc := "(II)I" } : Jvm.MethodName)) ∈ lw_all := lw_g (lw_at lw_m6 53 rfl) rfl
theorem q1332 : (Jvm.Cond.selects "SecondChancesModel" ({ cls := "SecondChancesModel", name := "plan", desc := "(II)I" } : Jvm.MethodName) ({ cls := "SecondChancesModel", name := "plan", desc := "(II)I" } : Jvm.MethodName)) ∈ lw_all := lw_g (lw_at lw_m6 54 rfl) rfl
theorem q1333 : (Jvm.Cond.code ({ cls := "SecondChancesModel", name := "plan", desc := "(II)I" } : Jvm.MethodName) prog_11_method_49_code (3 : Nat) (Option.some Jvm.ClassFile.FieldType.int)) ∈ lw_all := lw_g (lw_at lw_m6 55 rfl) rfl
theorem q1334 : (Jvm.Cond.methodLink "SecondChancesModel" (217 : Nat) ({ cls := "SecondChancesModel", name := "planOf", desc := "(II)I" } : Jvm.MethodName)) ∈ lw_all := lw_g (lw_at lw_m6 56 rfl) rfl
theorem q1335 : (Jvm.Cond.privateMethod ({ cls := "SecondChancesModel", name := "planOf", desc := "(II)I" } : Jvm.MethodName)) ∈ lw_tbl := lw_at lw_m6 57 rfl
theorem q1336 : (Jvm.Cond.instanceMethod ({ cls := "SecondChancesModel", name := "planOf", desc := "(II)I" } : Jvm.MethodName)) ∈ lw_all := lw_g (lw_at lw_m6 58 rfl) rfl
theorem q1337 : (Jvm.Cond.code ({ cls := "SecondChancesModel", name := "planOf", desc := "(II)I" } : Jvm.MethodName) prog_11_method_48_code (6 : Nat) (Option.some Jvm.ClassFile.FieldType.int)) ∈ lw_all := lw_g (lw_at lw_m6 59 rfl) rfl
theorem q1338 : (Jvm.Cond.methodLink "SecondChancesModel" (214 : Nat) ({ cls := "SecondChancesModel", name := "planCostOf", desc := "(I)I" } : Jvm.MethodName)) ∈ lw_all := lw_g (lw_at lw_m6 60 rfl) rfl
theorem q1339 : (Jvm.Cond.privateMethod ({ cls := "SecondChancesModel", name := "planCostOf", desc := "(I)I" } : Jvm.MethodName)) ∈ lw_tbl := lw_at lw_m6 61 rfl
theorem q1340 : (Jvm.Cond.instanceMethod ({ cls := "SecondChancesModel", name := "planCostOf", desc := "(I)I" } : Jvm.MethodName)) ∈ lw_all := lw_g (lw_at lw_m6 62 rfl) rfl
theorem q1341 : (Jvm.Cond.code ({ cls := "SecondChancesModel", name := "planCostOf", desc := "(I)I" } : Jvm.MethodName) prog_11_method_47_code (6 : Nat) (Option.some Jvm.ClassFile.FieldType.int)) ∈ lw_all := lw_g (lw_at lw_m6 63 rfl) rfl
theorem q1343 : (Jvm.Cond.instanceMethod ({ cls := "SecondChancesModel", name := "asked", desc := "(II)I" } : Jvm.MethodName)) ∈ lw_all := lw_g (lw_at lw_m6 65 rfl) rfl
theorem q1344 : (Jvm.Cond.selects "SecondChancesModel" ({ cls := "SecondChancesModel", name := "asked", desc := "(II)I" } : Jvm.MethodName) ({ cls := "SecondChancesModel", name := "asked", desc := "(II)I" } : Jvm.MethodName)) ∈ lw_all := lw_g (lw_at lw_m6 66 rfl) rfl
theorem q1345 : (Jvm.Cond.code ({ cls := "SecondChancesModel", name := "asked", desc := "(II)I" } : Jvm.MethodName) prog_11_method_51_code (3 : Nat) (Option.some Jvm.ClassFile.FieldType.int)) ∈ lw_all := lw_g (lw_at lw_m6 67 rfl) rfl
theorem q1346 : (Jvm.Cond.methodLink "SecondChancesModel" (220 : Nat) ({ cls := "SecondChancesModel", name := "askedOf", desc := "(II)I" } : Jvm.MethodName)) ∈ lw_all := lw_g (lw_at lw_m6 68 rfl) rfl
theorem q1347 : (Jvm.Cond.privateMethod ({ cls := "SecondChancesModel", name := "askedOf", desc := "(II)I" } : Jvm.MethodName)) ∈ lw_tbl := lw_at lw_m6 69 rfl
theorem q1348 : (Jvm.Cond.instanceMethod ({ cls := "SecondChancesModel", name := "askedOf", desc := "(II)I" } : Jvm.MethodName)) ∈ lw_all := lw_g (lw_at lw_m6 70 rfl) rfl
theorem q1349 : (Jvm.Cond.code ({ cls := "SecondChancesModel", name := "askedOf", desc := "(II)I" } : Jvm.MethodName) prog_11_method_50_code (6 : Nat) (Option.some Jvm.ClassFile.FieldType.int)) ∈ lw_all := lw_g (lw_at lw_m6 71 rfl) rfl
theorem q1351 : (Jvm.Cond.instanceMethod ({ cls := "SecondChancesModel", name := "crowd", desc := "(I)I" } : Jvm.MethodName)) ∈ lw_all := lw_g (lw_at lw_m6 73 rfl) rfl
theorem q1352 : (Jvm.Cond.selects "SecondChancesModel" ({ cls := "SecondChancesModel", name := "crowd", desc := "(I)I" } : Jvm.MethodName) ({ cls := "SecondChancesModel", name := "crowd", desc := "(I)I" } : Jvm.MethodName)) ∈ lw_all := lw_g (lw_at lw_m6 74 rfl) rfl
theorem q1353 : (Jvm.Cond.code ({ cls := "SecondChancesModel", name := "crowd", desc := "(I)I" } : Jvm.MethodName) prog_11_method_53_code (2 : Nat) (Option.some Jvm.ClassFile.FieldType.int)) ∈ lw_all := lw_g (lw_at lw_m6 75 rfl) rfl
theorem q1354 : (Jvm.Cond.methodLink "SecondChancesModel" (223 : Nat) ({ cls := "SecondChancesModel", name := "crowdOf", desc := "(I)I" } : Jvm.MethodName)) ∈ lw_all := lw_g (lw_at lw_m6 76 rfl) rfl
theorem q1355 : (Jvm.Cond.privateMethod ({ cls := "SecondChancesModel", name := "crowdOf", desc := "(I)I" } : Jvm.MethodName)) ∈ lw_tbl := lw_at lw_m6 77 rfl
theorem q1356 : (Jvm.Cond.instanceMethod ({ cls := "SecondChancesModel", name := "crowdOf", desc := "(I)I" } : Jvm.MethodName)) ∈ lw_all := lw_g (lw_at lw_m6 78 rfl) rfl
theorem q1357 : (Jvm.Cond.code ({ cls := "SecondChancesModel", name := "crowdOf", desc := "(I)I" } : Jvm.MethodName) prog_11_method_52_code (6 : Nat) (Option.some Jvm.ClassFile.FieldType.int)) ∈ lw_all := lw_g (lw_at lw_m6 79 rfl) rfl
theorem q1359 : (Jvm.Cond.instanceMethod ({ cls := "SecondChancesModel", name := "likeness", desc := "(II)I" } : Jvm.MethodName)) ∈ lw_all := lw_g (lw_at lw_m6 81 rfl) rfl
theorem q1360 : (Jvm.Cond.selects "SecondChancesModel" ({ cls := "SecondChancesModel", name := "likeness", desc := "(II)I" } : Jvm.MethodName) ({ cls := "SecondChancesModel", name := "likeness", desc := "(II)I" } : Jvm.MethodName)) ∈ lw_all := lw_g (lw_at lw_m6 82 rfl) rfl
theorem q1361 : (Jvm.Cond.code ({ cls := "SecondChancesModel", name := "likeness", desc := "(II)I" } : Jvm.MethodName) prog_11_method_55_code (3 : Nat) (Option.some Jvm.ClassFile.FieldType.int)) ∈ lw_all := lw_g (lw_at lw_m6 83 rfl) rfl
theorem q1362 : (Jvm.Cond.methodLink "SecondChancesModel" (226 : Nat) ({ cls := "SecondChancesModel", name := "likenessOf", desc := "(II)I" } : Jvm.MethodName)) ∈ lw_all := lw_g (lw_at lw_m6 84 rfl) rfl
theorem q1363 : (Jvm.Cond.privateMethod ({ cls := "SecondChancesModel", name := "likenessOf", desc := "(II)I" } : Jvm.MethodName)) ∈ lw_tbl := lw_at lw_m6 85 rfl
theorem q1364 : (Jvm.Cond.instanceMethod ({ cls := "SecondChancesModel", name := "likenessOf", desc := "(II)I" } : Jvm.MethodName)) ∈ lw_all := lw_g (lw_at lw_m6 86 rfl) rfl
theorem q1365 : (Jvm.Cond.code ({ cls := "SecondChancesModel", name := "likenessOf", desc := "(II)I" } : Jvm.MethodName) prog_11_method_54_code (5 : Nat) (Option.some Jvm.ClassFile.FieldType.int)) ∈ lw_all := lw_g (lw_at lw_m6 87 rfl) rfl
theorem q1367 : (Jvm.Cond.instanceMethod ({ cls := "SecondChancesModel", name := "odds", desc := "(III)J" } : Jvm.MethodName)) ∈ lw_all := lw_g (lw_at lw_m6 89 rfl) rfl
theorem q1368 : (Jvm.Cond.selects "SecondChancesModel" ({ cls := "SecondChancesModel", name := "odds", desc := "(III)J" } : Jvm.MethodName) ({ cls := "SecondChancesModel", name := "odds", desc := "(III)J" } : Jvm.MethodName)) ∈ lw_all := lw_g (lw_at lw_m6 90 rfl) rfl
theorem q1369 : (Jvm.Cond.code ({ cls := "SecondChancesModel", name := "odds", desc := "(III)J" } : Jvm.MethodName) prog_11_method_57_code (4 : Nat) (Option.some Jvm.ClassFile.FieldType.long)) ∈ lw_all := lw_g (lw_at lw_m6 91 rfl) rfl
theorem q1370 : (Jvm.Cond.methodLink "SecondChancesModel" (239 : Nat) ({ cls := "SecondChancesModel", name := "oddsOf", desc := "(III)J" } : Jvm.MethodName)) ∈ lw_all := lw_g (lw_at lw_m6 92 rfl) rfl
theorem q1371 : (Jvm.Cond.privateMethod ({ cls := "SecondChancesModel", name := "oddsOf", desc := "(III)J" } : Jvm.MethodName)) ∈ lw_tbl := lw_at lw_m6 93 rfl
theorem q1372 : (Jvm.Cond.instanceMethod ({ cls := "SecondChancesModel", name := "oddsOf", desc := "(III)J" } : Jvm.MethodName)) ∈ lw_all := lw_g (lw_at lw_m6 94 rfl) rfl
theorem q1373 : (Jvm.Cond.code ({ cls := "SecondChancesModel", name := "oddsOf", desc := "(III)J" } : Jvm.MethodName) prog_11_method_56_code (11 : Nat) (Option.some Jvm.ClassFile.FieldType.long)) ∈ lw_all := lw_g (lw_at lw_m6 95 rfl) rfl
theorem q1374 : (Jvm.Cond.methodLink "SecondChancesModel" (229 : Nat) ({ cls := "SecondChancesModel", name := "no", desc := "(I)J" } : Jvm.MethodName)) ∈ lw_all := lw_g (lw_at lw_m6 96 rfl) rfl
theorem q1375 : (Jvm.Cond.static ({ cls := "SecondChancesModel", name := "no", desc := "(I)J" } : Jvm.MethodName)) ∈ lw_all := lw_g (lw_at lw_m6 97 rfl) rfl
theorem q1376 : (Jvm.Cond.code ({ cls := "SecondChancesModel", name := "no", desc := "(I)J" } : Jvm.MethodName) prog_11_method_6_code (1 : Nat) (Option.some Jvm.ClassFile.FieldType.long)) ∈ lw_all := lw_g (lw_at lw_m6 98 rfl) rfl
theorem q1377 : (Jvm.Cond.constantLong "SecondChancesModel" (101 : Nat) (-9223372036854775808 : Int64)) ∈ lw_all := lw_g (lw_at lw_m6 99 rfl) rfl
theorem q1378 : (Jvm.Cond.constantLong "SecondChancesModel" (233 : Nat) (16 : Int64)) ∈ lw_all := lw_g (lw_at lw_m6 100 rfl) rfl
theorem q1379 : (Jvm.Cond.methodLink "SecondChancesModel" (235 : Nat) ({ cls := "SecondChancesModel", name := "lowest", desc := "(JJI)J" } : Jvm.MethodName)) ∈ lw_all := lw_g (lw_at lw_m6 101 rfl) rfl
theorem q1380 : (Jvm.Cond.static ({ cls := "SecondChancesModel", name := "lowest", desc := "(JJI)J" } : Jvm.MethodName)) ∈ lw_all := lw_g (lw_at lw_m6 102 rfl) rfl
theorem q1381 : (Jvm.Cond.code ({ cls := "SecondChancesModel", name := "lowest", desc := "(JJI)J" } : Jvm.MethodName) prog_11_method_7_code (11 : Nat) (Option.some Jvm.ClassFile.FieldType.long)) ∈ lw_all := lw_g (lw_at lw_m6 103 rfl) rfl
theorem q1383 : (Jvm.Cond.instanceMethod ({ cls := "SecondChancesModel", name := "seen", desc := "(III)I" } : Jvm.MethodName)) ∈ lw_all := lw_g (lw_at lw_m6 105 rfl) rfl
theorem q1384 : (Jvm.Cond.selects "SecondChancesModel" ({ cls := "SecondChancesModel", name := "seen", desc := "(III)I" } : Jvm.MethodName) ({ cls := "SecondChancesModel", name := "seen", desc := "(III)I" } : Jvm.MethodName)) ∈ lw_all := lw_g (lw_at lw_m6 106 rfl) rfl
theorem q1385 : (Jvm.Cond.code ({ cls := "SecondChancesModel", name := "seen", desc := "(III)I" } : Jvm.MethodName) prog_11_method_58_code (4 : Nat) (Option.some Jvm.ClassFile.FieldType.int)) ∈ lw_all := lw_g (lw_at lw_m6 107 rfl) rfl
theorem q1387 : (Jvm.Cond.instanceMethod ({ cls := "SecondChancesModel", name := "isFalse", desc := "(II)I" } : Jvm.MethodName)) ∈ lw_all := lw_g (lw_at lw_m6 109 rfl) rfl
theorem q1388 : (Jvm.Cond.selects "SecondChancesModel" ({ cls := "SecondChancesModel", name := "isFalse", desc := "(II)I" } : Jvm.MethodName) ({ cls := "SecondChancesModel", name := "isFalse", desc := "(II)I" } : Jvm.MethodName)) ∈ lw_all := lw_g (lw_at lw_m6 110 rfl) rfl
theorem q1389 : (Jvm.Cond.code ({ cls := "SecondChancesModel", name := "isFalse", desc := "(II)I" } : Jvm.MethodName) prog_11_method_61_code (3 : Nat) (Option.some Jvm.ClassFile.FieldType.int)) ∈ lw_all := lw_g (lw_at lw_m6 111 rfl) rfl
theorem q1390 : (Jvm.Cond.methodLink "SecondChancesModel" (246 : Nat) ({ cls := "SecondChancesModel", name := "isSight", desc := "(I)Z" } : Jvm.MethodName)) ∈ lw_all := lw_g (lw_at lw_m6 112 rfl) rfl
theorem q1391 : (Jvm.Cond.privateMethod ({ cls := "SecondChancesModel", name := "isSight", desc := "(I)Z" } : Jvm.MethodName)) ∈ lw_tbl := lw_at lw_m6 113 rfl
theorem q1392 : (Jvm.Cond.instanceMethod ({ cls := "SecondChancesModel", name := "isSight", desc := "(I)Z" } : Jvm.MethodName)) ∈ lw_all := lw_g (lw_at lw_m6 114 rfl) rfl
theorem q1393 : (Jvm.Cond.code ({ cls := "SecondChancesModel", name := "isSight", desc := "(I)Z" } : Jvm.MethodName) prog_11_method_60_code (2 : Nat) (Option.some Jvm.ClassFile.FieldType.boolean)) ∈ lw_all := lw_g (lw_at lw_m6 115 rfl) rfl
theorem q1394 : (Jvm.Cond.methodLink "SecondChancesModel" (249 : Nat) ({ cls := "SecondChancesModel", name := "areFalse", desc := "(II)Z" } : Jvm.MethodName)) ∈ lw_all := lw_g (lw_at lw_m6 116 rfl) rfl
theorem q1395 : (Jvm.Cond.privateMethod ({ cls := "SecondChancesModel", name := "areFalse", desc := "(II)Z" } : Jvm.MethodName)) ∈ lw_tbl := lw_at lw_m6 117 rfl
theorem q1396 : (Jvm.Cond.instanceMethod ({ cls := "SecondChancesModel", name := "areFalse", desc := "(II)Z" } : Jvm.MethodName)) ∈ lw_all := lw_g (lw_at lw_m6 118 rfl) rfl
theorem q1397 : (Jvm.Cond.code ({ cls := "SecondChancesModel", name := "areFalse", desc := "(II)Z" } : Jvm.MethodName) prog_11_method_59_code (6 : Nat) (Option.some Jvm.ClassFile.FieldType.boolean)) ∈ lw_all := lw_g (lw_at lw_m6 119 rfl) rfl
theorem q1399 : (Jvm.Cond.instanceMethod ({ cls := "SecondChancesModel", name := "hats", desc := "(I)I" } : Jvm.MethodName)) ∈ lw_all := lw_g (lw_at lw_m6 121 rfl) rfl
theorem q1400 : (Jvm.Cond.selects "SecondChancesModel" ({ cls := "SecondChancesModel", name := "hats", desc := "(I)I" } : Jvm.MethodName) ({ cls := "SecondChancesModel", name := "hats", desc := "(I)I" } : Jvm.MethodName)) ∈ lw_all := lw_g (lw_at lw_m6 122 rfl) rfl
theorem q1401 : (Jvm.Cond.code ({ cls := "SecondChancesModel", name := "hats", desc := "(I)I" } : Jvm.MethodName) prog_11_method_63_code (2 : Nat) (Option.some Jvm.ClassFile.FieldType.int)) ∈ lw_all := lw_g (lw_at lw_m6 123 rfl) rfl
theorem q1402 : (Jvm.Cond.methodLink "SecondChancesModel" (252 : Nat) ({ cls := "SecondChancesModel", name := "hatsOf", desc := "(I)I" } : Jvm.MethodName)) ∈ lw_all := lw_g (lw_at lw_m6 124 rfl) rfl
theorem q1403 : (Jvm.Cond.privateMethod ({ cls := "SecondChancesModel", name := "hatsOf", desc := "(I)I" } : Jvm.MethodName)) ∈ lw_tbl := lw_at lw_m6 125 rfl
theorem q1404 : (Jvm.Cond.instanceMethod ({ cls := "SecondChancesModel", name := "hatsOf", desc := "(I)I" } : Jvm.MethodName)) ∈ lw_all := lw_g (lw_at lw_m6 126 rfl) rfl
theorem q1405 : (Jvm.Cond.code ({ cls := "SecondChancesModel", name := "hatsOf", desc := "(I)I" } : Jvm.MethodName) prog_11_method_62_code (7 : Nat) (Option.some Jvm.ClassFile.FieldType.int)) ∈ lw_all := lw_g (lw_at lw_m6 127 rfl) rfl
theorem q1407 : (Jvm.Cond.instanceMethod ({ cls := "SecondChancesModel", name := "after", desc := "(II)I" } : Jvm.MethodName)) ∈ lw_all := lw_g (lw_at lw_m6 129 rfl) rfl
theorem q1408 : (Jvm.Cond.selects "SecondChancesModel" ({ cls := "SecondChancesModel", name := "after", desc := "(II)I" } : Jvm.MethodName) ({ cls := "SecondChancesModel", name := "after", desc := "(II)I" } : Jvm.MethodName)) ∈ lw_all := lw_g (lw_at lw_m6 130 rfl) rfl
theorem q1409 : (Jvm.Cond.code ({ cls := "SecondChancesModel", name := "after", desc := "(II)I" } : Jvm.MethodName) prog_11_method_64_code (3 : Nat) (Option.some Jvm.ClassFile.FieldType.int)) ∈ lw_all := lw_g (lw_at lw_m6 131 rfl) rfl
theorem q1411 : (Jvm.Cond.instanceMethod ({ cls := "SecondChancesModel", name := "forget", desc := "(I)I" } : Jvm.MethodName)) ∈ lw_all := lw_g (lw_at lw_m6 133 rfl) rfl
theorem q1412 : (Jvm.Cond.selects "SecondChancesModel" ({ cls := "SecondChancesModel", name := "forget", desc := "(I)I" } : Jvm.MethodName) ({ cls := "SecondChancesModel", name := "forget", desc := "(I)I" } : Jvm.MethodName)) ∈ lw_all := lw_g (lw_at lw_m6 134 rfl) rfl
theorem q1413 : (Jvm.Cond.code ({ cls := "SecondChancesModel", name := "forget", desc := "(I)I" } : Jvm.MethodName) prog_11_method_65_code (3 : Nat) (Option.some Jvm.ClassFile.FieldType.int)) ∈ lw_all := lw_g (lw_at lw_m6 135 rfl) rfl
theorem q1415 : (Jvm.Cond.instanceMethod ({ cls := "SecondChancesModel", name := "spared", desc := "(I)I" } : Jvm.MethodName)) ∈ lw_all := lw_g (lw_at lw_m6 137 rfl) rfl
theorem q1416 : (Jvm.Cond.selects "SecondChancesModel" ({ cls := "SecondChancesModel", name := "spared", desc := "(I)I" } : Jvm.MethodName) ({ cls := "SecondChancesModel", name := "spared", desc := "(I)I" } : Jvm.MethodName)) ∈ lw_all := lw_g (lw_at lw_m6 138 rfl) rfl
theorem q1417 : (Jvm.Cond.code ({ cls := "SecondChancesModel", name := "spared", desc := "(I)I" } : Jvm.MethodName) prog_11_method_68_code (2 : Nat) (Option.some Jvm.ClassFile.FieldType.int)) ∈ lw_all := lw_g (lw_at lw_m6 139 rfl) rfl
theorem q1418 : (Jvm.Cond.methodLink "SecondChancesModel" (258 : Nat) ({ cls := "SecondChancesModel", name := "allDeeds", desc := "()I" } : Jvm.MethodName)) ∈ lw_all := lw_g (lw_at lw_m6 140 rfl) rfl
theorem q1419 : (Jvm.Cond.privateMethod ({ cls := "SecondChancesModel", name := "allDeeds", desc := "()I" } : Jvm.MethodName)) ∈ lw_tbl := lw_at lw_m6 141 rfl
theorem q1420 : (Jvm.Cond.instanceMethod ({ cls := "SecondChancesModel", name := "allDeeds", desc := "()I" } : Jvm.MethodName)) ∈ lw_all := lw_g (lw_at lw_m6 142 rfl) rfl
theorem q1421 : (Jvm.Cond.code ({ cls := "SecondChancesModel", name := "allDeeds", desc := "()I" } : Jvm.MethodName) prog_11_method_67_code (1 : Nat) (Option.some Jvm.ClassFile.FieldType.int)) ∈ lw_all := lw_g (lw_at lw_m6 143 rfl) rfl
theorem q1422 : (Jvm.Cond.methodLink "SecondChancesModel" (261 : Nat) ({ cls := "SecondChancesModel", name := "sparedOf", desc := "(I)I" } : Jvm.MethodName)) ∈ lw_all := lw_g (lw_at lw_m6 144 rfl) rfl
theorem q1423 : (Jvm.Cond.privateMethod ({ cls := "SecondChancesModel", name := "sparedOf", desc := "(I)I" } : Jvm.MethodName)) ∈ lw_tbl := lw_at lw_m6 145 rfl
theorem q1424 : (Jvm.Cond.instanceMethod ({ cls := "SecondChancesModel", name := "sparedOf", desc := "(I)I" } : Jvm.MethodName)) ∈ lw_all := lw_g (lw_at lw_m6 146 rfl) rfl
theorem q1425 : (Jvm.Cond.code ({ cls := "SecondChancesModel", name := "sparedOf", desc := "(I)I" } : Jvm.MethodName) prog_11_method_66_code (5 : Nat) (Option.some Jvm.ClassFile.FieldType.int)) ∈ lw_all := lw_g (lw_at lw_m6 147 rfl) rfl
theorem q1427 : (Jvm.Cond.instanceMethod ({ cls := "SecondChancesModel", name := "best", desc := "()I" } : Jvm.MethodName)) ∈ lw_all := lw_g (lw_at lw_m6 149 rfl) rfl
theorem q1428 : (Jvm.Cond.selects "SecondChancesModel" ({ cls := "SecondChancesModel", name := "best", desc := "()I" } : Jvm.MethodName) ({ cls := "SecondChancesModel", name := "best", desc := "()I" } : Jvm.MethodName)) ∈ lw_all := lw_g (lw_at lw_m6 150 rfl) rfl
theorem q1429 : (Jvm.Cond.code ({ cls := "SecondChancesModel", name := "best", desc := "()I" } : Jvm.MethodName) prog_11_method_70_code (1 : Nat) (Option.some Jvm.ClassFile.FieldType.int)) ∈ lw_all := lw_g (lw_at lw_m6 151 rfl) rfl
theorem q1430 : (Jvm.Cond.methodLink "SecondChancesModel" (264 : Nat) ({ cls := "SecondChancesModel", name := "bestNow", desc := "()I" } : Jvm.MethodName)) ∈ lw_all := lw_g (lw_at lw_m6 152 rfl) rfl
theorem q1431 : (Jvm.Cond.privateMethod ({ cls := "SecondChancesModel", name := "bestNow", desc := "()I" } : Jvm.MethodName)) ∈ lw_tbl := lw_at lw_m6 153 rfl
theorem q1432 : (Jvm.Cond.instanceMethod ({ cls := "SecondChancesModel", name := "bestNow", desc := "()I" } : Jvm.MethodName)) ∈ lw_all := lw_g (lw_at lw_m6 154 rfl) rfl
theorem q1433 : (Jvm.Cond.code ({ cls := "SecondChancesModel", name := "bestNow", desc := "()I" } : Jvm.MethodName) prog_11_method_69_code (5 : Nat) (Option.some Jvm.ClassFile.FieldType.int)) ∈ lw_all := lw_g (lw_at lw_m6 155 rfl) rfl
theorem q1435 : (Jvm.Cond.instanceMethod ({ cls := "SecondChancesModel", name := "regrets", desc := "(II)J" } : Jvm.MethodName)) ∈ lw_all := lw_g (lw_at lw_m6 157 rfl) rfl
theorem q1436 : (Jvm.Cond.selects "SecondChancesModel" ({ cls := "SecondChancesModel", name := "regrets", desc := "(II)J" } : Jvm.MethodName) ({ cls := "SecondChancesModel", name := "regrets", desc := "(II)J" } : Jvm.MethodName)) ∈ lw_all := lw_g (lw_at lw_m6 158 rfl) rfl
theorem q1437 : (Jvm.Cond.code ({ cls := "SecondChancesModel", name := "regrets", desc := "(II)J" } : Jvm.MethodName) prog_11_method_72_code (3 : Nat) (Option.some Jvm.ClassFile.FieldType.long)) ∈ lw_all := lw_g (lw_at lw_m6 159 rfl) rfl
theorem q1438 : (Jvm.Cond.methodLink "SecondChancesModel" (271 : Nat) ({ cls := "SecondChancesModel", name := "regretsOf", desc := "(II)J" } : Jvm.MethodName)) ∈ lw_all := lw_g (lw_at lw_m6 160 rfl) rfl
theorem q1439 : (Jvm.Cond.privateMethod ({ cls := "SecondChancesModel", name := "regretsOf", desc := "(II)J" } : Jvm.MethodName)) ∈ lw_tbl := lw_at lw_m6 161 rfl
theorem q1440 : (Jvm.Cond.instanceMethod ({ cls := "SecondChancesModel", name := "regretsOf", desc := "(II)J" } : Jvm.MethodName)) ∈ lw_all := lw_g (lw_at lw_m6 162 rfl) rfl
theorem q1441 : (Jvm.Cond.code ({ cls := "SecondChancesModel", name := "regretsOf", desc := "(II)J" } : Jvm.MethodName) prog_11_method_71_code (5 : Nat) (Option.some Jvm.ClassFile.FieldType.long)) ∈ lw_all := lw_g (lw_at lw_m6 163 rfl) rfl
theorem q1442 : (Jvm.Cond.methodLink "SecondChancesModel" (267 : Nat) ({ cls := "SecondChancesModel", name := "choose", desc := "(II)J" } : Jvm.MethodName)) ∈ lw_all := lw_g (lw_at lw_m6 164 rfl) rfl
theorem q1443 : (Jvm.Cond.static ({ cls := "SecondChancesModel", name := "choose", desc := "(II)J" } : Jvm.MethodName)) ∈ lw_all := lw_g (lw_at lw_m6 165 rfl) rfl
theorem q1444 : (Jvm.Cond.code ({ cls := "SecondChancesModel", name := "choose", desc := "(II)J" } : Jvm.MethodName) prog_11_method_8_code (5 : Nat) (Option.some Jvm.ClassFile.FieldType.long)) ∈ lw_all := lw_g (lw_at lw_m6 166 rfl) rfl
theorem q1446 : (Jvm.Cond.instanceMethod ({ cls := "SecondChancesModel", name := "sheet", desc := "(III)I" } : Jvm.MethodName)) ∈ lw_all := lw_g (lw_at lw_m6 168 rfl) rfl
theorem q1447 : (Jvm.Cond.selects "SecondChancesModel" ({ cls := "SecondChancesModel", name := "sheet", desc := "(III)I" } : Jvm.MethodName) ({ cls := "SecondChancesModel", name := "sheet", desc := "(III)I" } : Jvm.MethodName)) ∈ lw_all := lw_g (lw_at lw_m6 169 rfl) rfl
theorem q1448 : (Jvm.Cond.code ({ cls := "SecondChancesModel", name := "sheet", desc := "(III)I" } : Jvm.MethodName) prog_11_method_75_code (5 : Nat) (Option.some Jvm.ClassFile.FieldType.int)) ∈ lw_all := lw_g (lw_at lw_m6 170 rfl) rfl
theorem q1450 : (Jvm.Cond.instanceMethod ({ cls := "SecondChancesModel", name := "lose", desc := "(I)I" } : Jvm.MethodName)) ∈ lw_all := lw_g (lw_at lw_m6 172 rfl) rfl
theorem q1451 : (Jvm.Cond.selects "SecondChancesModel" ({ cls := "SecondChancesModel", name := "lose", desc := "(I)I" } : Jvm.MethodName) ({ cls := "SecondChancesModel", name := "lose", desc := "(I)I" } : Jvm.MethodName)) ∈ lw_all := lw_g (lw_at lw_m6 173 rfl) rfl
theorem q1452 : (Jvm.Cond.code ({ cls := "SecondChancesModel", name := "lose", desc := "(I)I" } : Jvm.MethodName) prog_11_method_76_code (2 : Nat) (Option.some Jvm.ClassFile.FieldType.int)) ∈ lw_all := lw_g (lw_at lw_m6 174 rfl) rfl
theorem q1454 : (Jvm.Cond.instanceMethod ({ cls := "SecondChancesModel", name := "put", desc := "(IIII)I" } : Jvm.MethodName)) ∈ lw_all := lw_g (lw_at lw_m6 176 rfl) rfl
theorem q1455 : (Jvm.Cond.selects "SecondChancesModel" ({ cls := "SecondChancesModel", name := "put", desc := "(IIII)I" } : Jvm.MethodName) ({ cls := "SecondChancesModel", name := "put", desc := "(IIII)I" } : Jvm.MethodName)) ∈ lw_all := lw_g (lw_at lw_m6 177 rfl) rfl
theorem q1456 : (Jvm.Cond.code ({ cls := "SecondChancesModel", name := "put", desc := "(IIII)I" } : Jvm.MethodName) prog_11_method_79_code (6 : Nat) (Option.some Jvm.ClassFile.FieldType.int)) ∈ lw_all := lw_g (lw_at lw_m6 178 rfl) rfl
theorem q1457 : (Jvm.Cond.methodLink "SecondChancesModel" (277 : Nat) ({ cls := "SecondChancesModel", name := "lacks", desc := "(III)I" } : Jvm.MethodName)) ∈ lw_all := lw_g (lw_at lw_m6 179 rfl) rfl
theorem q1458 : (Jvm.Cond.privateMethod ({ cls := "SecondChancesModel", name := "lacks", desc := "(III)I" } : Jvm.MethodName)) ∈ lw_tbl := lw_at lw_m6 180 rfl
theorem q1459 : (Jvm.Cond.instanceMethod ({ cls := "SecondChancesModel", name := "lacks", desc := "(III)I" } : Jvm.MethodName)) ∈ lw_all := lw_g (lw_at lw_m6 181 rfl) rfl
theorem q1460 : (Jvm.Cond.code ({ cls := "SecondChancesModel", name := "lacks", desc := "(III)I" } : Jvm.MethodName) prog_11_method_77_code (4 : Nat) (Option.some Jvm.ClassFile.FieldType.int)) ∈ lw_all := lw_g (lw_at lw_m6 182 rfl) rfl
theorem q1461 : (Jvm.Cond.methodLink "SecondChancesModel" (281 : Nat) ({ cls := "SecondChancesModel", name := "keep", desc := "(III)V" } : Jvm.MethodName)) ∈ lw_all := lw_g (lw_at lw_m6 183 rfl) rfl
theorem q1462 : (Jvm.Cond.privateMethod ({ cls := "SecondChancesModel", name := "keep", desc := "(III)V" } : Jvm.MethodName)) ∈ lw_tbl := lw_at lw_m6 184 rfl
theorem q1463 : (Jvm.Cond.instanceMethod ({ cls := "SecondChancesModel", name := "keep", desc := "(III)V" } : Jvm.MethodName)) ∈ lw_all := lw_g (lw_at lw_m6 185 rfl) rfl
theorem q1464 : (Jvm.Cond.code ({ cls := "SecondChancesModel", name := "keep", desc := "(III)V" } : Jvm.MethodName) prog_11_method_78_code (4 : Nat) (Option.none : Option Jvm.ClassFile.FieldType)) ∈ lw_all := lw_g (lw_at lw_m6 186 rfl) rfl
theorem q1466 : (Jvm.Cond.instanceMethod ({ cls := "SecondChancesModel", name := "get", desc := "(III)I" } : Jvm.MethodName)) ∈ lw_all := lw_g (lw_at lw_m6 188 rfl) rfl
theorem q1467 : (Jvm.Cond.selects "SecondChancesModel" ({ cls := "SecondChancesModel", name := "get", desc := "(III)I" } : Jvm.MethodName) ({ cls := "SecondChancesModel", name := "get", desc := "(III)I" } : Jvm.MethodName)) ∈ lw_all := lw_g (lw_at lw_m6 189 rfl) rfl
theorem q1468 : (Jvm.Cond.code ({ cls := "SecondChancesModel", name := "get", desc := "(III)I" } : Jvm.MethodName) prog_11_method_80_code (5 : Nat) (Option.some Jvm.ClassFile.FieldType.int)) ∈ lw_all := lw_g (lw_at lw_m6 190 rfl) rfl
theorem q1469 : (Jvm.Cond.constant "SecondChancesModel" (285 : Nat) (-2147483648 : Int32)) ∈ lw_all := lw_g (lw_at lw_m6 191 rfl) rfl
theorem q1471 : (Jvm.Cond.instanceMethod ({ cls := "SecondChancesModel", name := "copy", desc := "(IIIII)I" } : Jvm.MethodName)) ∈ lw_all := lw_g (lw_at lw_m6 193 rfl) rfl
theorem q1472 : (Jvm.Cond.selects "SecondChancesModel" ({ cls := "SecondChancesModel", name := "copy", desc := "(IIIII)I" } : Jvm.MethodName) ({ cls := "SecondChancesModel", name := "copy", desc := "(IIIII)I" } : Jvm.MethodName)) ∈ lw_all := lw_g (lw_at lw_m6 194 rfl) rfl
theorem q1473 : (Jvm.Cond.code ({ cls := "SecondChancesModel", name := "copy", desc := "(IIIII)I" } : Jvm.MethodName) prog_11_method_81_code (7 : Nat) (Option.some Jvm.ClassFile.FieldType.int)) ∈ lw_all := lw_g (lw_at lw_m6 195 rfl) rfl
theorem q1475 : (Jvm.Cond.instanceMethod ({ cls := "SecondChancesModel", name := "write", desc := "(I)I" } : Jvm.MethodName)) ∈ lw_all := lw_g (lw_at lw_m6 197 rfl) rfl
theorem q1476 : (Jvm.Cond.selects "SecondChancesModel" ({ cls := "SecondChancesModel", name := "write", desc := "(I)I" } : Jvm.MethodName) ({ cls := "SecondChancesModel", name := "write", desc := "(I)I" } : Jvm.MethodName)) ∈ lw_all := lw_g (lw_at lw_m6 198 rfl) rfl
theorem q1477 : (Jvm.Cond.code ({ cls := "SecondChancesModel", name := "write", desc := "(I)I" } : Jvm.MethodName) prog_11_method_82_code (3 : Nat) (Option.some Jvm.ClassFile.FieldType.int)) ∈ lw_all := lw_g (lw_at lw_m6 199 rfl) rfl
theorem q1479 : (Jvm.Cond.instanceMethod ({ cls := "SecondChancesModel", name := "count", desc := "(I)I" } : Jvm.MethodName)) ∈ lw_all := lw_g (lw_at lw_m6 201 rfl) rfl
theorem q1480 : (Jvm.Cond.selects "SecondChancesModel" ({ cls := "SecondChancesModel", name := "count", desc := "(I)I" } : Jvm.MethodName) ({ cls := "SecondChancesModel", name := "count", desc := "(I)I" } : Jvm.MethodName)) ∈ lw_all := lw_g (lw_at lw_m6 202 rfl) rfl
theorem q1481 : (Jvm.Cond.code ({ cls := "SecondChancesModel", name := "count", desc := "(I)I" } : Jvm.MethodName) prog_11_method_84_code (2 : Nat) (Option.some Jvm.ClassFile.FieldType.int)) ∈ lw_all := lw_g (lw_at lw_m6 203 rfl) rfl
theorem q1482 : (Jvm.Cond.methodLink "SecondChancesModel" (286 : Nat) ({ cls := "SecondChancesModel", name := "sumOf", desc := "(I)I" } : Jvm.MethodName)) ∈ lw_all := lw_g (lw_at lw_m6 204 rfl) rfl
theorem q1483 : (Jvm.Cond.privateMethod ({ cls := "SecondChancesModel", name := "sumOf", desc := "(I)I" } : Jvm.MethodName)) ∈ lw_tbl := lw_at lw_m6 205 rfl
theorem q1484 : (Jvm.Cond.instanceMethod ({ cls := "SecondChancesModel", name := "sumOf", desc := "(I)I" } : Jvm.MethodName)) ∈ lw_all := lw_g (lw_at lw_m6 206 rfl) rfl
theorem q1485 : (Jvm.Cond.code ({ cls := "SecondChancesModel", name := "sumOf", desc := "(I)I" } : Jvm.MethodName) prog_11_method_83_code (5 : Nat) (Option.some Jvm.ClassFile.FieldType.int)) ∈ lw_all := lw_g (lw_at lw_m6 207 rfl) rfl
theorem q1487 : (Jvm.Cond.instanceMethod ({ cls := "SecondChancesModel", name := "digest", desc := "()J" } : Jvm.MethodName)) ∈ lw_all := lw_g (lw_at lw_m6 209 rfl) rfl
theorem q1488 : (Jvm.Cond.selects "SecondChancesModel" ({ cls := "SecondChancesModel", name := "digest", desc := "()J" } : Jvm.MethodName) ({ cls := "SecondChancesModel", name := "digest", desc := "()J" } : Jvm.MethodName)) ∈ lw_all := lw_g (lw_at lw_m6 210 rfl) rfl
theorem q1489 : (Jvm.Cond.code ({ cls := "SecondChancesModel", name := "digest", desc := "()J" } : Jvm.MethodName) prog_11_method_85_code (5 : Nat) (Option.some Jvm.ClassFile.FieldType.long)) ∈ lw_all := lw_g (lw_at lw_m6 211 rfl) rfl
theorem q1490 : (Jvm.Cond.constantLong "SecondChancesModel" (289 : Nat) (17 : Int64)) ∈ lw_all := lw_g (lw_at lw_m6 212 rfl) rfl
theorem q1491 : (Jvm.Cond.constantLong "SecondChancesModel" (291 : Nat) (31 : Int64)) ∈ lw_all := lw_g (lw_at lw_m6 213 rfl) rfl
theorem q1492 : (Jvm.Cond.methodLink "SecondChancesModel" (293 : Nat) ({ cls := "SecondChancesModel", name := "count", desc := "(I)I" } : Jvm.MethodName)) ∈ lw_all := lw_g (lw_at lw_m6 214 rfl) rfl
theorem q1506 : (Jvm.Cond.castable "SecondChancesModel" "java/lang/Object") ∈ lw_tbl := lw_at lw_m6 228 rfl
theorem in_X6 : ∀ w ∈ wsX60, w ∈ lw_all := lw_in wsX60 [1085, 1087, 1089, 1091, 1093, 1095, 1097, 1099, 1101, 1103, 1105, 1107, 1109, 1111, 1113, 1115, 1117, 1119, 1121, 1123, 1125, 1127, 1129, 1131, 1133, 1135, 1137, 1139, 1141, 1143, 1145, 1147, 1149, 1151, 1153, 1155, 1157, 1159, 1161] (by decide +kernel) (by decide +kernel)
