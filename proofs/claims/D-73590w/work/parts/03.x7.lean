/-! MergeJudgeModel -/
set_option maxRecDepth 100000
def RX7 : String := "MergeJudgeModel"
def TX7 : u_T := fun k => match k with
  | 0 => ("MergeJudgeModel", "thrown", "I", false)
  | 1 => ("MergeJudgeModel", "world", "[I", true)
  | 2 => ("MergeJudgeModel", "images", "[I", true)
  | 3 => ("MergeJudgeModel", "hasImage", "[Z", true)
  | 4 => ("MergeJudgeModel", "tape", "[B", true)
  | 5 => ("MergeJudgeModel", "taped", "I", false)
  | 6 => ("MergeJudgeModel", "five", "[I", true)
  | 7 => ("MergeJudgeModel", "size", "I", false)
  | 8 => ("MergeJudgeModel", "at", "I", false)
  | 9 => ("MergeJudgeModel", "from", "I", false)
  | 10 => ("MergeJudgeModel", "token", "I", false)
  | 11 => ("MergeJudgeModel", "value", "I", false)
  | 12 => ("MergeJudgeModel", "faultKind", "I", false)
  | 13 => ("MergeJudgeModel", "faultPlace", "I", false)
  | 14 => ("MergeJudgeModel", "fresh", "[I", true)
  | 15 => ("MergeJudgeModel", "mergedBy", "[I", true)
  | 16 => ("MergeJudgeModel", "lawNow", "I", false)
  | 17 => ("MergeJudgeModel", "lockedNow", "I", false)
  | 18 => ("MergeJudgeModel", "droppedNow", "I", false)
  | 19 => ("MergeJudgeModel", "isValid", "[Z", true)
  | 20 => ("MergeJudgeModel", "goes", "[I", true)
  | 21 => ("MergeJudgeModel", "farNow", "[I", true)
  | 22 => ("MergeJudgeModel", "freeNow", "[I", true)
  | 23 => ("MergeJudgeModel", "isPair", "[Z", true)
  | 24 => ("MergeJudgeModel", "hitsBy", "[I", true)
  | 25 => ("MergeJudgeModel", "breakMany", "I", false)
  | 26 => ("MergeJudgeModel", "leastOps", "I", false)
  | 27 => ("MergeJudgeModel", "leastBase", "I", false)
  | 28 => ("MergeJudgeModel", "leastFirst", "I", false)
  | 29 => ("MergeJudgeModel", "leastSecond", "I", false)
  | 30 => ("MergeJudgeModel", "bestLocks", "I", false)
  | 31 => ("MergeJudgeModel", "inEach", "I", false)
  | 32 => ("MergeJudgeModel", "fitMany", "I", false)
  | 33 => ("MergeJudgeModel", "fitFirst", "I", false)
  | 34 => ("MergeJudgeModel", "worthBy", "[I", true)
  | 35 => ("MergeJudgeModel", "oftenAll", "J", false)
  | 36 => ("MergeJudgeModel", "oftenSafe", "J", false)
  | 37 => ("MergeJudgeModel", "oftenValid", "J", false)
  | 38 => ("MergeJudgeModel", "many", "[I", true)
  | 39 => ("MergeJudgeModel", "width", "[I", true)
  | 40 => ("MergeJudgeModel", "numbers", "[J", true)
  | _ => ("MergeJudgeModel", "moving", "[J", true)
def tyX7 : Nat → FieldType := fun k => match k with
  | 0 => .int
  | 1 => .array .int
  | 2 => .array .int
  | 3 => .array .boolean
  | 4 => .array .byte
  | 5 => .int
  | 6 => .array .int
  | 7 => .int
  | 8 => .int
  | 9 => .int
  | 10 => .int
  | 11 => .int
  | 12 => .int
  | 13 => .int
  | 14 => .array .int
  | 15 => .array .int
  | 16 => .int
  | 17 => .int
  | 18 => .int
  | 19 => .array .boolean
  | 20 => .array .int
  | 21 => .array .int
  | 22 => .array .int
  | 23 => .array .boolean
  | 24 => .array .int
  | 25 => .int
  | 26 => .int
  | 27 => .int
  | 28 => .int
  | 29 => .int
  | 30 => .int
  | 31 => .int
  | 32 => .int
  | 33 => .int
  | 34 => .array .int
  | 35 => .long
  | 36 => .long
  | 37 => .long
  | 38 => .array .int
  | 39 => .array .int
  | 40 => .array .long
  | _ => .array .long
abbrev wsX70 : List Cond := u_ws RX7 TX7 42
set_option maxRecDepth 100000 in
theorem nmX7 : ∀ a, a < 42 → ∀ b, b < 42 → a ≠ b → (TX7 a).2.1 ≠ (TX7 b).2.1 := by decide +kernel
set_option maxRecDepth 100000 in
theorem tyX7_ok : ∀ k, k < 42 → parseFieldDescriptor (TX7 k).2.2.1 = some (tyX7 k) := by decide +kernel
abbrev cX7_init : ByteArray := prog_22_method_1_code
def yX7_init : MethodName := ⟨RX7, "<init>", "()V"⟩
def dkwX7_init_7 : List UInt8 := [188, 11, 181, 0, 68, 177]
abbrev dktX7_init_7 : List UInt8 := dkwX7_init_7 ++ []
def dkwX7_init_6 : List UInt8 := [79, 181, 0, 58, 42, 7, 188, 10, 181, 0, 61, 42, 17, 0, 240, 188, 11, 181, 0, 64, 42, 16, 60]
abbrev dktX7_init_6 : List UInt8 := dkwX7_init_6 ++ dktX7_init_7
def dkwX7_init_5 : List UInt8 := [188, 10, 181, 0, 55, 42, 7, 188, 10, 89, 3, 2, 79, 89, 4, 2, 79, 89, 5, 2, 79, 89, 6, 2]
abbrev dktX7_init_5 : List UInt8 := dkwX7_init_5 ++ dktX7_init_6
def dkwX7_init_4 : List UInt8 := [188, 10, 181, 0, 46, 42, 17, 16, 0, 188, 4, 181, 0, 49, 42, 8, 188, 10, 181, 0, 52, 42, 16, 32]
abbrev dktX7_init_4 : List UInt8 := dkwX7_init_4 ++ dktX7_init_5
def dkwX7_init_3 : List UInt8 := [181, 0, 37, 42, 17, 1, 64, 188, 10, 181, 0, 40, 42, 16, 64, 188, 10, 181, 0, 43, 42, 16, 64]
abbrev dktX7_init_3 : List UInt8 := dkwX7_init_3 ++ dktX7_init_4
def dkwX7_init_2 : List UInt8 := [181, 0, 27, 42, 16, 76, 188, 10, 181, 0, 31, 42, 6, 188, 10, 181, 0, 34, 42, 16, 64, 188, 4]
abbrev dktX7_init_2 : List UInt8 := dkwX7_init_2 ++ dktX7_init_3
def dkwX7_init_1 : List UInt8 := [188, 4, 181, 0, 16, 42, 17, 1, 144, 188, 8, 181, 0, 20, 42, 8, 188, 10, 181, 0, 24, 42, 2]
abbrev dktX7_init_1 : List UInt8 := dkwX7_init_1 ++ dktX7_init_2
def dkwX7_init_0 : List UInt8 := [42, 183, 0, 3, 42, 16, 76, 188, 10, 181, 0, 9, 42, 17, 0, 228, 188, 10, 181, 0, 13, 42, 6]
abbrev dktX7_init_0 : List UInt8 := dkwX7_init_0 ++ dktX7_init_1
theorem dksX7_init_0 : cX7_init.data.toList.drop 0 = dktX7_init_0 := by decide +kernel
theorem dksX7_init_1 : cX7_init.data.toList.drop 23 = dktX7_init_1 := dk_seg dksX7_init_0 23 rfl rfl
theorem dksX7_init_2 : cX7_init.data.toList.drop 46 = dktX7_init_2 := dk_seg dksX7_init_1 23 rfl rfl
theorem dksX7_init_3 : cX7_init.data.toList.drop 69 = dktX7_init_3 := dk_seg dksX7_init_2 23 rfl rfl
theorem dksX7_init_4 : cX7_init.data.toList.drop 92 = dktX7_init_4 := dk_seg dksX7_init_3 23 rfl rfl
theorem dksX7_init_5 : cX7_init.data.toList.drop 116 = dktX7_init_5 := dk_seg dksX7_init_4 24 rfl rfl
theorem dksX7_init_6 : cX7_init.data.toList.drop 140 = dktX7_init_6 := dk_seg dksX7_init_5 24 rfl rfl
theorem dksX7_init_7 : cX7_init.data.toList.drop 163 = dktX7_init_7 := dk_seg dksX7_init_6 23 rfl rfl
theorem dX7_init_0 : decode cX7_init 0 = .ok (.aload_n 0, 1) := dk_42 (dk_at dksX7_init_0 0 rfl rfl)
theorem dX7_init_1 : decode cX7_init 1 = .ok (.invokespecial 3, 3) := dk_183 0 3 (dk_at dksX7_init_0 1 rfl rfl)
theorem dX7_init_4 : decode cX7_init 4 = .ok (.aload_n 0, 1) := dk_42 (dk_at dksX7_init_0 4 rfl rfl)
theorem dX7_init_5 : decode cX7_init 5 = .ok (.bipush 76, 2) := dk_16 76 (dk_at dksX7_init_0 5 rfl rfl)
theorem dX7_init_7 : decode cX7_init 7 = .ok (.newarray .int, 2) := dk_188_10 (dk_at dksX7_init_0 7 rfl rfl)
theorem dX7_init_9 : decode cX7_init 9 = .ok (.putfield 9, 3) := dk_181 0 9 (dk_at dksX7_init_0 9 rfl rfl)
theorem dX7_init_12 : decode cX7_init 12 = .ok (.aload_n 0, 1) := dk_42 (dk_at dksX7_init_0 12 rfl rfl)
theorem dX7_init_13 : decode cX7_init 13 = .ok (.sipush 228, 3) := dk_17 0 228 (dk_at dksX7_init_0 13 rfl rfl)
theorem dX7_init_16 : decode cX7_init 16 = .ok (.newarray .int, 2) := dk_188_10 (dk_at dksX7_init_0 16 rfl rfl)
theorem dX7_init_18 : decode cX7_init 18 = .ok (.putfield 13, 3) := dk_181 0 13 (dk_at dksX7_init_0 18 rfl rfl)
theorem dX7_init_21 : decode cX7_init 21 = .ok (.aload_n 0, 1) := dk_42 (dk_at dksX7_init_0 21 rfl rfl)
theorem dX7_init_22 : decode cX7_init 22 = .ok (.iconst 3, 1) := dk_6 (dk_at dksX7_init_0 22 rfl rfl)
theorem dX7_init_23 : decode cX7_init 23 = .ok (.newarray .boolean, 2) := dk_188_4 (dk_at dksX7_init_1 0 rfl rfl)
theorem dX7_init_25 : decode cX7_init 25 = .ok (.putfield 16, 3) := dk_181 0 16 (dk_at dksX7_init_1 2 rfl rfl)
theorem dX7_init_28 : decode cX7_init 28 = .ok (.aload_n 0, 1) := dk_42 (dk_at dksX7_init_1 5 rfl rfl)
theorem dX7_init_29 : decode cX7_init 29 = .ok (.sipush 400, 3) := dk_17 1 144 (dk_at dksX7_init_1 6 rfl rfl)
theorem dX7_init_32 : decode cX7_init 32 = .ok (.newarray .byte, 2) := dk_188_8 (dk_at dksX7_init_1 9 rfl rfl)
theorem dX7_init_34 : decode cX7_init 34 = .ok (.putfield 20, 3) := dk_181 0 20 (dk_at dksX7_init_1 11 rfl rfl)
theorem dX7_init_37 : decode cX7_init 37 = .ok (.aload_n 0, 1) := dk_42 (dk_at dksX7_init_1 14 rfl rfl)
theorem dX7_init_38 : decode cX7_init 38 = .ok (.iconst 5, 1) := dk_8 (dk_at dksX7_init_1 15 rfl rfl)
theorem dX7_init_39 : decode cX7_init 39 = .ok (.newarray .int, 2) := dk_188_10 (dk_at dksX7_init_1 16 rfl rfl)
theorem dX7_init_41 : decode cX7_init 41 = .ok (.putfield 24, 3) := dk_181 0 24 (dk_at dksX7_init_1 18 rfl rfl)
theorem dX7_init_44 : decode cX7_init 44 = .ok (.aload_n 0, 1) := dk_42 (dk_at dksX7_init_1 21 rfl rfl)
theorem dX7_init_45 : decode cX7_init 45 = .ok (.iconst (-1), 1) := dk_2 (dk_at dksX7_init_1 22 rfl rfl)
theorem dX7_init_46 : decode cX7_init 46 = .ok (.putfield 27, 3) := dk_181 0 27 (dk_at dksX7_init_2 0 rfl rfl)
theorem dX7_init_49 : decode cX7_init 49 = .ok (.aload_n 0, 1) := dk_42 (dk_at dksX7_init_2 3 rfl rfl)
theorem dX7_init_50 : decode cX7_init 50 = .ok (.bipush 76, 2) := dk_16 76 (dk_at dksX7_init_2 4 rfl rfl)
theorem dX7_init_52 : decode cX7_init 52 = .ok (.newarray .int, 2) := dk_188_10 (dk_at dksX7_init_2 6 rfl rfl)
theorem dX7_init_54 : decode cX7_init 54 = .ok (.putfield 31, 3) := dk_181 0 31 (dk_at dksX7_init_2 8 rfl rfl)
theorem dX7_init_57 : decode cX7_init 57 = .ok (.aload_n 0, 1) := dk_42 (dk_at dksX7_init_2 11 rfl rfl)
theorem dX7_init_58 : decode cX7_init 58 = .ok (.iconst 3, 1) := dk_6 (dk_at dksX7_init_2 12 rfl rfl)
theorem dX7_init_59 : decode cX7_init 59 = .ok (.newarray .int, 2) := dk_188_10 (dk_at dksX7_init_2 13 rfl rfl)
theorem dX7_init_61 : decode cX7_init 61 = .ok (.putfield 34, 3) := dk_181 0 34 (dk_at dksX7_init_2 15 rfl rfl)
theorem dX7_init_64 : decode cX7_init 64 = .ok (.aload_n 0, 1) := dk_42 (dk_at dksX7_init_2 18 rfl rfl)
theorem dX7_init_65 : decode cX7_init 65 = .ok (.bipush 64, 2) := dk_16 64 (dk_at dksX7_init_2 19 rfl rfl)
theorem dX7_init_67 : decode cX7_init 67 = .ok (.newarray .boolean, 2) := dk_188_4 (dk_at dksX7_init_2 21 rfl rfl)
theorem dX7_init_69 : decode cX7_init 69 = .ok (.putfield 37, 3) := dk_181 0 37 (dk_at dksX7_init_3 0 rfl rfl)
theorem dX7_init_72 : decode cX7_init 72 = .ok (.aload_n 0, 1) := dk_42 (dk_at dksX7_init_3 3 rfl rfl)
theorem dX7_init_73 : decode cX7_init 73 = .ok (.sipush 320, 3) := dk_17 1 64 (dk_at dksX7_init_3 4 rfl rfl)
theorem dX7_init_76 : decode cX7_init 76 = .ok (.newarray .int, 2) := dk_188_10 (dk_at dksX7_init_3 7 rfl rfl)
theorem dX7_init_78 : decode cX7_init 78 = .ok (.putfield 40, 3) := dk_181 0 40 (dk_at dksX7_init_3 9 rfl rfl)
theorem dX7_init_81 : decode cX7_init 81 = .ok (.aload_n 0, 1) := dk_42 (dk_at dksX7_init_3 12 rfl rfl)
theorem dX7_init_82 : decode cX7_init 82 = .ok (.bipush 64, 2) := dk_16 64 (dk_at dksX7_init_3 13 rfl rfl)
theorem dX7_init_84 : decode cX7_init 84 = .ok (.newarray .int, 2) := dk_188_10 (dk_at dksX7_init_3 15 rfl rfl)
theorem dX7_init_86 : decode cX7_init 86 = .ok (.putfield 43, 3) := dk_181 0 43 (dk_at dksX7_init_3 17 rfl rfl)
theorem dX7_init_89 : decode cX7_init 89 = .ok (.aload_n 0, 1) := dk_42 (dk_at dksX7_init_3 20 rfl rfl)
theorem dX7_init_90 : decode cX7_init 90 = .ok (.bipush 64, 2) := dk_16 64 (dk_at dksX7_init_3 21 rfl rfl)
theorem dX7_init_92 : decode cX7_init 92 = .ok (.newarray .int, 2) := dk_188_10 (dk_at dksX7_init_4 0 rfl rfl)
theorem dX7_init_94 : decode cX7_init 94 = .ok (.putfield 46, 3) := dk_181 0 46 (dk_at dksX7_init_4 2 rfl rfl)
theorem dX7_init_97 : decode cX7_init 97 = .ok (.aload_n 0, 1) := dk_42 (dk_at dksX7_init_4 5 rfl rfl)
theorem dX7_init_98 : decode cX7_init 98 = .ok (.sipush 4096, 3) := dk_17 16 0 (dk_at dksX7_init_4 6 rfl rfl)
theorem dX7_init_101 : decode cX7_init 101 = .ok (.newarray .boolean, 2) := dk_188_4 (dk_at dksX7_init_4 9 rfl rfl)
theorem dX7_init_103 : decode cX7_init 103 = .ok (.putfield 49, 3) := dk_181 0 49 (dk_at dksX7_init_4 11 rfl rfl)
theorem dX7_init_106 : decode cX7_init 106 = .ok (.aload_n 0, 1) := dk_42 (dk_at dksX7_init_4 14 rfl rfl)
theorem dX7_init_107 : decode cX7_init 107 = .ok (.iconst 5, 1) := dk_8 (dk_at dksX7_init_4 15 rfl rfl)
theorem dX7_init_108 : decode cX7_init 108 = .ok (.newarray .int, 2) := dk_188_10 (dk_at dksX7_init_4 16 rfl rfl)
theorem dX7_init_110 : decode cX7_init 110 = .ok (.putfield 52, 3) := dk_181 0 52 (dk_at dksX7_init_4 18 rfl rfl)
theorem dX7_init_113 : decode cX7_init 113 = .ok (.aload_n 0, 1) := dk_42 (dk_at dksX7_init_4 21 rfl rfl)
theorem dX7_init_114 : decode cX7_init 114 = .ok (.bipush 32, 2) := dk_16 32 (dk_at dksX7_init_4 22 rfl rfl)
theorem dX7_init_116 : decode cX7_init 116 = .ok (.newarray .int, 2) := dk_188_10 (dk_at dksX7_init_5 0 rfl rfl)
theorem dX7_init_118 : decode cX7_init 118 = .ok (.putfield 55, 3) := dk_181 0 55 (dk_at dksX7_init_5 2 rfl rfl)
theorem dX7_init_121 : decode cX7_init 121 = .ok (.aload_n 0, 1) := dk_42 (dk_at dksX7_init_5 5 rfl rfl)
theorem dX7_init_122 : decode cX7_init 122 = .ok (.iconst 4, 1) := dk_7 (dk_at dksX7_init_5 6 rfl rfl)
theorem dX7_init_123 : decode cX7_init 123 = .ok (.newarray .int, 2) := dk_188_10 (dk_at dksX7_init_5 7 rfl rfl)
theorem dX7_init_125 : decode cX7_init 125 = .ok (.dup, 1) := dk_89 (dk_at dksX7_init_5 9 rfl rfl)
theorem dX7_init_126 : decode cX7_init 126 = .ok (.iconst 0, 1) := dk_3 (dk_at dksX7_init_5 10 rfl rfl)
theorem dX7_init_127 : decode cX7_init 127 = .ok (.iconst (-1), 1) := dk_2 (dk_at dksX7_init_5 11 rfl rfl)
theorem dX7_init_128 : decode cX7_init 128 = .ok (.iastore, 1) := dk_79 (dk_at dksX7_init_5 12 rfl rfl)
theorem dX7_init_129 : decode cX7_init 129 = .ok (.dup, 1) := dk_89 (dk_at dksX7_init_5 13 rfl rfl)
theorem dX7_init_130 : decode cX7_init 130 = .ok (.iconst 1, 1) := dk_4 (dk_at dksX7_init_5 14 rfl rfl)
theorem dX7_init_131 : decode cX7_init 131 = .ok (.iconst (-1), 1) := dk_2 (dk_at dksX7_init_5 15 rfl rfl)
theorem dX7_init_132 : decode cX7_init 132 = .ok (.iastore, 1) := dk_79 (dk_at dksX7_init_5 16 rfl rfl)
theorem dX7_init_133 : decode cX7_init 133 = .ok (.dup, 1) := dk_89 (dk_at dksX7_init_5 17 rfl rfl)
theorem dX7_init_134 : decode cX7_init 134 = .ok (.iconst 2, 1) := dk_5 (dk_at dksX7_init_5 18 rfl rfl)
theorem dX7_init_135 : decode cX7_init 135 = .ok (.iconst (-1), 1) := dk_2 (dk_at dksX7_init_5 19 rfl rfl)
theorem dX7_init_136 : decode cX7_init 136 = .ok (.iastore, 1) := dk_79 (dk_at dksX7_init_5 20 rfl rfl)
theorem dX7_init_137 : decode cX7_init 137 = .ok (.dup, 1) := dk_89 (dk_at dksX7_init_5 21 rfl rfl)
theorem dX7_init_138 : decode cX7_init 138 = .ok (.iconst 3, 1) := dk_6 (dk_at dksX7_init_5 22 rfl rfl)
theorem dX7_init_139 : decode cX7_init 139 = .ok (.iconst (-1), 1) := dk_2 (dk_at dksX7_init_5 23 rfl rfl)
theorem dX7_init_140 : decode cX7_init 140 = .ok (.iastore, 1) := dk_79 (dk_at dksX7_init_6 0 rfl rfl)
theorem dX7_init_141 : decode cX7_init 141 = .ok (.putfield 58, 3) := dk_181 0 58 (dk_at dksX7_init_6 1 rfl rfl)
theorem dX7_init_144 : decode cX7_init 144 = .ok (.aload_n 0, 1) := dk_42 (dk_at dksX7_init_6 4 rfl rfl)
theorem dX7_init_145 : decode cX7_init 145 = .ok (.iconst 4, 1) := dk_7 (dk_at dksX7_init_6 5 rfl rfl)
theorem dX7_init_146 : decode cX7_init 146 = .ok (.newarray .int, 2) := dk_188_10 (dk_at dksX7_init_6 6 rfl rfl)
theorem dX7_init_148 : decode cX7_init 148 = .ok (.putfield 61, 3) := dk_181 0 61 (dk_at dksX7_init_6 8 rfl rfl)
theorem dX7_init_151 : decode cX7_init 151 = .ok (.aload_n 0, 1) := dk_42 (dk_at dksX7_init_6 11 rfl rfl)
theorem dX7_init_152 : decode cX7_init 152 = .ok (.sipush 240, 3) := dk_17 0 240 (dk_at dksX7_init_6 12 rfl rfl)
theorem dX7_init_155 : decode cX7_init 155 = .ok (.newarray .long, 2) := dk_188_11 (dk_at dksX7_init_6 15 rfl rfl)
theorem dX7_init_157 : decode cX7_init 157 = .ok (.putfield 64, 3) := dk_181 0 64 (dk_at dksX7_init_6 17 rfl rfl)
theorem dX7_init_160 : decode cX7_init 160 = .ok (.aload_n 0, 1) := dk_42 (dk_at dksX7_init_6 20 rfl rfl)
theorem dX7_init_161 : decode cX7_init 161 = .ok (.bipush 60, 2) := dk_16 60 (dk_at dksX7_init_6 21 rfl rfl)
theorem dX7_init_163 : decode cX7_init 163 = .ok (.newarray .long, 2) := dk_188_11 (dk_at dksX7_init_7 0 rfl rfl)
theorem dX7_init_165 : decode cX7_init 165 = .ok (.putfield 68, 3) := dk_181 0 68 (dk_at dksX7_init_7 2 rfl rfl)
theorem dX7_init_168 : decode cX7_init 168 = .ok (.return_, 1) := dk_177 (dk_at dksX7_init_7 5 rfl rfl)
abbrev cX7_image : ByteArray := prog_22_method_6_code
def yX7_image : MethodName := ⟨RX7, "image", "(I)I"⟩
def dkwX7_image_2 : List UInt8 := [180, 0, 16, 27, 4, 84, 3, 172]
abbrev dktX7_image_2 : List UInt8 := dkwX7_image_2 ++ []
def dkwX7_image_1 : List UInt8 := [180, 0, 13, 16, 76, 27, 104, 28, 96, 42, 180, 0, 9, 28, 46, 79, 132, 2, 1, 167, 255, 230, 42]
abbrev dktX7_image_1 : List UInt8 := dkwX7_image_1 ++ dktX7_image_2
def dkwX7_image_0 : List UInt8 := [27, 133, 9, 20, 0, 74, 184, 0, 76, 154, 0, 6, 16, 254, 172, 3, 61, 28, 16, 76, 162, 0, 26, 42]
abbrev dktX7_image_0 : List UInt8 := dkwX7_image_0 ++ dktX7_image_1
theorem dksX7_image_0 : cX7_image.data.toList.drop 0 = dktX7_image_0 := by decide +kernel
theorem dksX7_image_1 : cX7_image.data.toList.drop 24 = dktX7_image_1 := dk_seg dksX7_image_0 24 rfl rfl
theorem dksX7_image_2 : cX7_image.data.toList.drop 47 = dktX7_image_2 := dk_seg dksX7_image_1 23 rfl rfl
theorem dX7_image_0 : decode cX7_image 0 = .ok (.iload_n 1, 1) := dk_27 (dk_at dksX7_image_0 0 rfl rfl)
theorem dX7_image_1 : decode cX7_image 1 = .ok (.i2l, 1) := dk_133 (dk_at dksX7_image_0 1 rfl rfl)
theorem dX7_image_2 : decode cX7_image 2 = .ok (.lconst 0, 1) := dk_9 (dk_at dksX7_image_0 2 rfl rfl)
theorem dX7_image_3 : decode cX7_image 3 = .ok (.ldc2_w 74, 3) := dk_20 0 74 (dk_at dksX7_image_0 3 rfl rfl)
theorem dX7_image_6 : decode cX7_image 6 = .ok (.invokestatic 76, 3) := dk_184 0 76 (dk_at dksX7_image_0 6 rfl rfl)
theorem dX7_image_9 : decode cX7_image 9 = .ok (.ifCond .ne 6, 3) := dk_154 0 6 (dk_at dksX7_image_0 9 rfl rfl)
theorem dX7_image_12 : decode cX7_image 12 = .ok (.bipush (-2), 2) := dk_16 254 (dk_at dksX7_image_0 12 rfl rfl)
theorem dX7_image_14 : decode cX7_image 14 = .ok (.ireturn, 1) := dk_172 (dk_at dksX7_image_0 14 rfl rfl)
theorem dX7_image_15 : decode cX7_image 15 = .ok (.iconst 0, 1) := dk_3 (dk_at dksX7_image_0 15 rfl rfl)
theorem dX7_image_16 : decode cX7_image 16 = .ok (.istore_n 2, 1) := dk_61 (dk_at dksX7_image_0 16 rfl rfl)
theorem dX7_image_17 : decode cX7_image 17 = .ok (.iload_n 2, 1) := dk_28 (dk_at dksX7_image_0 17 rfl rfl)
theorem dX7_image_18 : decode cX7_image 18 = .ok (.bipush 76, 2) := dk_16 76 (dk_at dksX7_image_0 18 rfl rfl)
theorem dX7_image_20 : decode cX7_image 20 = .ok (.if_icmp .ge 26, 3) := dk_162 0 26 (dk_at dksX7_image_0 20 rfl rfl)
theorem dX7_image_23 : decode cX7_image 23 = .ok (.aload_n 0, 1) := dk_42 (dk_at dksX7_image_0 23 rfl rfl)
theorem dX7_image_24 : decode cX7_image 24 = .ok (.getfield 13, 3) := dk_180 0 13 (dk_at dksX7_image_1 0 rfl rfl)
theorem dX7_image_27 : decode cX7_image 27 = .ok (.bipush 76, 2) := dk_16 76 (dk_at dksX7_image_1 3 rfl rfl)
theorem dX7_image_29 : decode cX7_image 29 = .ok (.iload_n 1, 1) := dk_27 (dk_at dksX7_image_1 5 rfl rfl)
theorem dX7_image_30 : decode cX7_image 30 = .ok (.imul, 1) := dk_104 (dk_at dksX7_image_1 6 rfl rfl)
theorem dX7_image_31 : decode cX7_image 31 = .ok (.iload_n 2, 1) := dk_28 (dk_at dksX7_image_1 7 rfl rfl)
theorem dX7_image_32 : decode cX7_image 32 = .ok (.iadd, 1) := dk_96 (dk_at dksX7_image_1 8 rfl rfl)
theorem dX7_image_33 : decode cX7_image 33 = .ok (.aload_n 0, 1) := dk_42 (dk_at dksX7_image_1 9 rfl rfl)
theorem dX7_image_34 : decode cX7_image 34 = .ok (.getfield 9, 3) := dk_180 0 9 (dk_at dksX7_image_1 10 rfl rfl)
theorem dX7_image_37 : decode cX7_image 37 = .ok (.iload_n 2, 1) := dk_28 (dk_at dksX7_image_1 13 rfl rfl)
theorem dX7_image_38 : decode cX7_image 38 = .ok (.iaload, 1) := dk_46 (dk_at dksX7_image_1 14 rfl rfl)
theorem dX7_image_39 : decode cX7_image 39 = .ok (.iastore, 1) := dk_79 (dk_at dksX7_image_1 15 rfl rfl)
theorem dX7_image_40 : decode cX7_image 40 = .ok (.iinc 2 1, 3) := dk_132 2 1 (dk_at dksX7_image_1 16 rfl rfl)
theorem dX7_image_43 : decode cX7_image 43 = .ok (.goto (-26), 3) := dk_167 255 230 (dk_at dksX7_image_1 19 rfl rfl)
theorem dX7_image_46 : decode cX7_image 46 = .ok (.aload_n 0, 1) := dk_42 (dk_at dksX7_image_1 22 rfl rfl)
theorem dX7_image_47 : decode cX7_image 47 = .ok (.getfield 16, 3) := dk_180 0 16 (dk_at dksX7_image_2 0 rfl rfl)
theorem dX7_image_50 : decode cX7_image 50 = .ok (.iload_n 1, 1) := dk_27 (dk_at dksX7_image_2 3 rfl rfl)
theorem dX7_image_51 : decode cX7_image 51 = .ok (.iconst 1, 1) := dk_4 (dk_at dksX7_image_2 4 rfl rfl)
theorem dX7_image_52 : decode cX7_image 52 = .ok (.bastore, 1) := dk_84 (dk_at dksX7_image_2 5 rfl rfl)
theorem dX7_image_53 : decode cX7_image 53 = .ok (.iconst 0, 1) := dk_3 (dk_at dksX7_image_2 6 rfl rfl)
theorem dX7_image_54 : decode cX7_image 54 = .ok (.ireturn, 1) := dk_172 (dk_at dksX7_image_2 7 rfl rfl)
abbrev cX7_in : ByteArray := prog_22_method_3_code
def yX7_in : MethodName := ⟨RX7, "in", "(JJJ)Z"⟩
def dkwX7_in_0 : List UInt8 := [30, 32, 148, 155, 0, 14, 30, 22, 4, 148, 157, 0, 7, 4, 167, 0, 4, 3, 172]
abbrev dktX7_in_0 : List UInt8 := dkwX7_in_0 ++ []
theorem dksX7_in_0 : cX7_in.data.toList.drop 0 = dktX7_in_0 := by decide +kernel
theorem dX7_in_0 : decode cX7_in 0 = .ok (.lload_n 0, 1) := dk_30 (dk_at dksX7_in_0 0 rfl rfl)
theorem dX7_in_1 : decode cX7_in 1 = .ok (.lload_n 2, 1) := dk_32 (dk_at dksX7_in_0 1 rfl rfl)
theorem dX7_in_2 : decode cX7_in 2 = .ok (.lcmp, 1) := dk_148 (dk_at dksX7_in_0 2 rfl rfl)
theorem dX7_in_3 : decode cX7_in 3 = .ok (.ifCond .lt 14, 3) := dk_155 0 14 (dk_at dksX7_in_0 3 rfl rfl)
theorem dX7_in_6 : decode cX7_in 6 = .ok (.lload_n 0, 1) := dk_30 (dk_at dksX7_in_0 6 rfl rfl)
theorem dX7_in_7 : decode cX7_in 7 = .ok (.lload 4, 2) := dk_22 4 (dk_at dksX7_in_0 7 rfl rfl)
theorem dX7_in_9 : decode cX7_in 9 = .ok (.lcmp, 1) := dk_148 (dk_at dksX7_in_0 9 rfl rfl)
theorem dX7_in_10 : decode cX7_in 10 = .ok (.ifCond .gt 7, 3) := dk_157 0 7 (dk_at dksX7_in_0 10 rfl rfl)
theorem dX7_in_13 : decode cX7_in 13 = .ok (.iconst 1, 1) := dk_4 (dk_at dksX7_in_0 13 rfl rfl)
theorem dX7_in_14 : decode cX7_in 14 = .ok (.goto 4, 3) := dk_167 0 4 (dk_at dksX7_in_0 14 rfl rfl)
theorem dX7_in_17 : decode cX7_in 17 = .ok (.iconst 0, 1) := dk_3 (dk_at dksX7_in_0 17 rfl rfl)
theorem dX7_in_18 : decode cX7_in 18 = .ok (.ireturn, 1) := dk_172 (dk_at dksX7_in_0 18 rfl rfl)
abbrev cX7_back : ByteArray := prog_22_method_7_code
def yX7_back : MethodName := ⟨RX7, "back", "(I)I"⟩
def dkwX7_back_2 : List UInt8 := [28, 96, 46, 79, 132, 2, 1, 167, 255, 230, 3, 172]
abbrev dktX7_back_2 : List UInt8 := dkwX7_back_2 ++ []
def dkwX7_back_1 : List UInt8 := [16, 250, 172, 3, 61, 28, 16, 76, 162, 0, 26, 42, 180, 0, 9, 28, 42, 180, 0, 13, 16, 76, 27, 104]
abbrev dktX7_back_1 : List UInt8 := dkwX7_back_1 ++ dktX7_back_2
def dkwX7_back_0 : List UInt8 := [27, 133, 9, 20, 0, 74, 184, 0, 76, 154, 0, 6, 16, 254, 172, 42, 180, 0, 16, 27, 51, 154, 0, 6]
abbrev dktX7_back_0 : List UInt8 := dkwX7_back_0 ++ dktX7_back_1
theorem dksX7_back_0 : cX7_back.data.toList.drop 0 = dktX7_back_0 := by decide +kernel
theorem dksX7_back_1 : cX7_back.data.toList.drop 24 = dktX7_back_1 := dk_seg dksX7_back_0 24 rfl rfl
theorem dksX7_back_2 : cX7_back.data.toList.drop 48 = dktX7_back_2 := dk_seg dksX7_back_1 24 rfl rfl
theorem dX7_back_0 : decode cX7_back 0 = .ok (.iload_n 1, 1) := dk_27 (dk_at dksX7_back_0 0 rfl rfl)
theorem dX7_back_1 : decode cX7_back 1 = .ok (.i2l, 1) := dk_133 (dk_at dksX7_back_0 1 rfl rfl)
theorem dX7_back_2 : decode cX7_back 2 = .ok (.lconst 0, 1) := dk_9 (dk_at dksX7_back_0 2 rfl rfl)
theorem dX7_back_3 : decode cX7_back 3 = .ok (.ldc2_w 74, 3) := dk_20 0 74 (dk_at dksX7_back_0 3 rfl rfl)
theorem dX7_back_6 : decode cX7_back 6 = .ok (.invokestatic 76, 3) := dk_184 0 76 (dk_at dksX7_back_0 6 rfl rfl)
theorem dX7_back_9 : decode cX7_back 9 = .ok (.ifCond .ne 6, 3) := dk_154 0 6 (dk_at dksX7_back_0 9 rfl rfl)
theorem dX7_back_12 : decode cX7_back 12 = .ok (.bipush (-2), 2) := dk_16 254 (dk_at dksX7_back_0 12 rfl rfl)
theorem dX7_back_14 : decode cX7_back 14 = .ok (.ireturn, 1) := dk_172 (dk_at dksX7_back_0 14 rfl rfl)
theorem dX7_back_15 : decode cX7_back 15 = .ok (.aload_n 0, 1) := dk_42 (dk_at dksX7_back_0 15 rfl rfl)
theorem dX7_back_16 : decode cX7_back 16 = .ok (.getfield 16, 3) := dk_180 0 16 (dk_at dksX7_back_0 16 rfl rfl)
theorem dX7_back_19 : decode cX7_back 19 = .ok (.iload_n 1, 1) := dk_27 (dk_at dksX7_back_0 19 rfl rfl)
theorem dX7_back_20 : decode cX7_back 20 = .ok (.baload, 1) := dk_51 (dk_at dksX7_back_0 20 rfl rfl)
theorem dX7_back_21 : decode cX7_back 21 = .ok (.ifCond .ne 6, 3) := dk_154 0 6 (dk_at dksX7_back_0 21 rfl rfl)
theorem dX7_back_24 : decode cX7_back 24 = .ok (.bipush (-6), 2) := dk_16 250 (dk_at dksX7_back_1 0 rfl rfl)
theorem dX7_back_26 : decode cX7_back 26 = .ok (.ireturn, 1) := dk_172 (dk_at dksX7_back_1 2 rfl rfl)
theorem dX7_back_27 : decode cX7_back 27 = .ok (.iconst 0, 1) := dk_3 (dk_at dksX7_back_1 3 rfl rfl)
theorem dX7_back_28 : decode cX7_back 28 = .ok (.istore_n 2, 1) := dk_61 (dk_at dksX7_back_1 4 rfl rfl)
theorem dX7_back_29 : decode cX7_back 29 = .ok (.iload_n 2, 1) := dk_28 (dk_at dksX7_back_1 5 rfl rfl)
theorem dX7_back_30 : decode cX7_back 30 = .ok (.bipush 76, 2) := dk_16 76 (dk_at dksX7_back_1 6 rfl rfl)
theorem dX7_back_32 : decode cX7_back 32 = .ok (.if_icmp .ge 26, 3) := dk_162 0 26 (dk_at dksX7_back_1 8 rfl rfl)
theorem dX7_back_35 : decode cX7_back 35 = .ok (.aload_n 0, 1) := dk_42 (dk_at dksX7_back_1 11 rfl rfl)
theorem dX7_back_36 : decode cX7_back 36 = .ok (.getfield 9, 3) := dk_180 0 9 (dk_at dksX7_back_1 12 rfl rfl)
theorem dX7_back_39 : decode cX7_back 39 = .ok (.iload_n 2, 1) := dk_28 (dk_at dksX7_back_1 15 rfl rfl)
theorem dX7_back_40 : decode cX7_back 40 = .ok (.aload_n 0, 1) := dk_42 (dk_at dksX7_back_1 16 rfl rfl)
theorem dX7_back_41 : decode cX7_back 41 = .ok (.getfield 13, 3) := dk_180 0 13 (dk_at dksX7_back_1 17 rfl rfl)
theorem dX7_back_44 : decode cX7_back 44 = .ok (.bipush 76, 2) := dk_16 76 (dk_at dksX7_back_1 20 rfl rfl)
theorem dX7_back_46 : decode cX7_back 46 = .ok (.iload_n 1, 1) := dk_27 (dk_at dksX7_back_1 22 rfl rfl)
theorem dX7_back_47 : decode cX7_back 47 = .ok (.imul, 1) := dk_104 (dk_at dksX7_back_1 23 rfl rfl)
theorem dX7_back_48 : decode cX7_back 48 = .ok (.iload_n 2, 1) := dk_28 (dk_at dksX7_back_2 0 rfl rfl)
theorem dX7_back_49 : decode cX7_back 49 = .ok (.iadd, 1) := dk_96 (dk_at dksX7_back_2 1 rfl rfl)
theorem dX7_back_50 : decode cX7_back 50 = .ok (.iaload, 1) := dk_46 (dk_at dksX7_back_2 2 rfl rfl)
theorem dX7_back_51 : decode cX7_back 51 = .ok (.iastore, 1) := dk_79 (dk_at dksX7_back_2 3 rfl rfl)
theorem dX7_back_52 : decode cX7_back 52 = .ok (.iinc 2 1, 3) := dk_132 2 1 (dk_at dksX7_back_2 4 rfl rfl)
theorem dX7_back_55 : decode cX7_back 55 = .ok (.goto (-26), 3) := dk_167 255 230 (dk_at dksX7_back_2 7 rfl rfl)
theorem dX7_back_58 : decode cX7_back 58 = .ok (.iconst 0, 1) := dk_3 (dk_at dksX7_back_2 10 rfl rfl)
theorem dX7_back_59 : decode cX7_back 59 = .ok (.ireturn, 1) := dk_172 (dk_at dksX7_back_2 11 rfl rfl)
abbrev cX7_feed : ByteArray := prog_22_method_24_code
def yX7_feed : MethodName := ⟨RX7, "feed", "(IIIII)I"⟩
def dkwX7_feed_5 : List UInt8 := [180, 0, 99, 172]
abbrev dktX7_feed_5 : List UInt8 := dkwX7_feed_5 ++ []
def dkwX7_feed_4 : List UInt8 := [100, 122, 145, 84, 132, 6, 1, 167, 255, 213, 42, 89, 180, 0, 99, 16, 20, 96, 181, 0, 99, 42]
abbrev dktX7_feed_4 : List UInt8 := dkwX7_feed_4 ++ dktX7_feed_5
def dkwX7_feed_3 : List UInt8 := [180, 0, 99, 21, 6, 96, 42, 180, 0, 24, 21, 6, 7, 108, 46, 16, 24, 16, 8, 21, 6, 7, 112, 104]
abbrev dktX7_feed_3 : List UInt8 := dkwX7_feed_3 ++ dktX7_feed_4
def dkwX7_feed_2 : List UInt8 := [180, 0, 24, 7, 21, 5, 79, 3, 54, 6, 21, 6, 16, 20, 162, 0, 42, 42, 180, 0, 20, 42]
abbrev dktX7_feed_2 : List UInt8 := dkwX7_feed_2 ++ dktX7_feed_3
def dkwX7_feed_1 : List UInt8 := [180, 0, 24, 4, 28, 79, 42, 180, 0, 24, 5, 29, 79, 42, 180, 0, 24, 6, 21, 4, 79, 42]
abbrev dktX7_feed_1 : List UInt8 := dkwX7_feed_1 ++ dktX7_feed_2
def dkwX7_feed_0 : List UInt8 := [42, 180, 0, 99, 16, 20, 96, 17, 1, 144, 164, 0, 5, 2, 172, 42, 180, 0, 24, 3, 27, 79, 42]
abbrev dktX7_feed_0 : List UInt8 := dkwX7_feed_0 ++ dktX7_feed_1
theorem dksX7_feed_0 : cX7_feed.data.toList.drop 0 = dktX7_feed_0 := by decide +kernel
theorem dksX7_feed_1 : cX7_feed.data.toList.drop 23 = dktX7_feed_1 := dk_seg dksX7_feed_0 23 rfl rfl
theorem dksX7_feed_2 : cX7_feed.data.toList.drop 45 = dktX7_feed_2 := dk_seg dksX7_feed_1 22 rfl rfl
theorem dksX7_feed_3 : cX7_feed.data.toList.drop 67 = dktX7_feed_3 := dk_seg dksX7_feed_2 22 rfl rfl
theorem dksX7_feed_4 : cX7_feed.data.toList.drop 91 = dktX7_feed_4 := dk_seg dksX7_feed_3 24 rfl rfl
theorem dksX7_feed_5 : cX7_feed.data.toList.drop 113 = dktX7_feed_5 := dk_seg dksX7_feed_4 22 rfl rfl
theorem dX7_feed_0 : decode cX7_feed 0 = .ok (.aload_n 0, 1) := dk_42 (dk_at dksX7_feed_0 0 rfl rfl)
theorem dX7_feed_1 : decode cX7_feed 1 = .ok (.getfield 99, 3) := dk_180 0 99 (dk_at dksX7_feed_0 1 rfl rfl)
theorem dX7_feed_4 : decode cX7_feed 4 = .ok (.bipush 20, 2) := dk_16 20 (dk_at dksX7_feed_0 4 rfl rfl)
theorem dX7_feed_6 : decode cX7_feed 6 = .ok (.iadd, 1) := dk_96 (dk_at dksX7_feed_0 6 rfl rfl)
theorem dX7_feed_7 : decode cX7_feed 7 = .ok (.sipush 400, 3) := dk_17 1 144 (dk_at dksX7_feed_0 7 rfl rfl)
theorem dX7_feed_10 : decode cX7_feed 10 = .ok (.if_icmp .le 5, 3) := dk_164 0 5 (dk_at dksX7_feed_0 10 rfl rfl)
theorem dX7_feed_13 : decode cX7_feed 13 = .ok (.iconst (-1), 1) := dk_2 (dk_at dksX7_feed_0 13 rfl rfl)
theorem dX7_feed_14 : decode cX7_feed 14 = .ok (.ireturn, 1) := dk_172 (dk_at dksX7_feed_0 14 rfl rfl)
theorem dX7_feed_15 : decode cX7_feed 15 = .ok (.aload_n 0, 1) := dk_42 (dk_at dksX7_feed_0 15 rfl rfl)
theorem dX7_feed_16 : decode cX7_feed 16 = .ok (.getfield 24, 3) := dk_180 0 24 (dk_at dksX7_feed_0 16 rfl rfl)
theorem dX7_feed_19 : decode cX7_feed 19 = .ok (.iconst 0, 1) := dk_3 (dk_at dksX7_feed_0 19 rfl rfl)
theorem dX7_feed_20 : decode cX7_feed 20 = .ok (.iload_n 1, 1) := dk_27 (dk_at dksX7_feed_0 20 rfl rfl)
theorem dX7_feed_21 : decode cX7_feed 21 = .ok (.iastore, 1) := dk_79 (dk_at dksX7_feed_0 21 rfl rfl)
theorem dX7_feed_22 : decode cX7_feed 22 = .ok (.aload_n 0, 1) := dk_42 (dk_at dksX7_feed_0 22 rfl rfl)
theorem dX7_feed_23 : decode cX7_feed 23 = .ok (.getfield 24, 3) := dk_180 0 24 (dk_at dksX7_feed_1 0 rfl rfl)
theorem dX7_feed_26 : decode cX7_feed 26 = .ok (.iconst 1, 1) := dk_4 (dk_at dksX7_feed_1 3 rfl rfl)
theorem dX7_feed_27 : decode cX7_feed 27 = .ok (.iload_n 2, 1) := dk_28 (dk_at dksX7_feed_1 4 rfl rfl)
theorem dX7_feed_28 : decode cX7_feed 28 = .ok (.iastore, 1) := dk_79 (dk_at dksX7_feed_1 5 rfl rfl)
theorem dX7_feed_29 : decode cX7_feed 29 = .ok (.aload_n 0, 1) := dk_42 (dk_at dksX7_feed_1 6 rfl rfl)
theorem dX7_feed_30 : decode cX7_feed 30 = .ok (.getfield 24, 3) := dk_180 0 24 (dk_at dksX7_feed_1 7 rfl rfl)
theorem dX7_feed_33 : decode cX7_feed 33 = .ok (.iconst 2, 1) := dk_5 (dk_at dksX7_feed_1 10 rfl rfl)
theorem dX7_feed_34 : decode cX7_feed 34 = .ok (.iload_n 3, 1) := dk_29 (dk_at dksX7_feed_1 11 rfl rfl)
theorem dX7_feed_35 : decode cX7_feed 35 = .ok (.iastore, 1) := dk_79 (dk_at dksX7_feed_1 12 rfl rfl)
theorem dX7_feed_36 : decode cX7_feed 36 = .ok (.aload_n 0, 1) := dk_42 (dk_at dksX7_feed_1 13 rfl rfl)
theorem dX7_feed_37 : decode cX7_feed 37 = .ok (.getfield 24, 3) := dk_180 0 24 (dk_at dksX7_feed_1 14 rfl rfl)
theorem dX7_feed_40 : decode cX7_feed 40 = .ok (.iconst 3, 1) := dk_6 (dk_at dksX7_feed_1 17 rfl rfl)
theorem dX7_feed_41 : decode cX7_feed 41 = .ok (.iload 4, 2) := dk_21 4 (dk_at dksX7_feed_1 18 rfl rfl)
theorem dX7_feed_43 : decode cX7_feed 43 = .ok (.iastore, 1) := dk_79 (dk_at dksX7_feed_1 20 rfl rfl)
theorem dX7_feed_44 : decode cX7_feed 44 = .ok (.aload_n 0, 1) := dk_42 (dk_at dksX7_feed_1 21 rfl rfl)
theorem dX7_feed_45 : decode cX7_feed 45 = .ok (.getfield 24, 3) := dk_180 0 24 (dk_at dksX7_feed_2 0 rfl rfl)
theorem dX7_feed_48 : decode cX7_feed 48 = .ok (.iconst 4, 1) := dk_7 (dk_at dksX7_feed_2 3 rfl rfl)
theorem dX7_feed_49 : decode cX7_feed 49 = .ok (.iload 5, 2) := dk_21 5 (dk_at dksX7_feed_2 4 rfl rfl)
theorem dX7_feed_51 : decode cX7_feed 51 = .ok (.iastore, 1) := dk_79 (dk_at dksX7_feed_2 6 rfl rfl)
theorem dX7_feed_52 : decode cX7_feed 52 = .ok (.iconst 0, 1) := dk_3 (dk_at dksX7_feed_2 7 rfl rfl)
theorem dX7_feed_53 : decode cX7_feed 53 = .ok (.istore 6, 2) := dk_54 6 (dk_at dksX7_feed_2 8 rfl rfl)
theorem dX7_feed_55 : decode cX7_feed 55 = .ok (.iload 6, 2) := dk_21 6 (dk_at dksX7_feed_2 10 rfl rfl)
theorem dX7_feed_57 : decode cX7_feed 57 = .ok (.bipush 20, 2) := dk_16 20 (dk_at dksX7_feed_2 12 rfl rfl)
theorem dX7_feed_59 : decode cX7_feed 59 = .ok (.if_icmp .ge 42, 3) := dk_162 0 42 (dk_at dksX7_feed_2 14 rfl rfl)
theorem dX7_feed_62 : decode cX7_feed 62 = .ok (.aload_n 0, 1) := dk_42 (dk_at dksX7_feed_2 17 rfl rfl)
theorem dX7_feed_63 : decode cX7_feed 63 = .ok (.getfield 20, 3) := dk_180 0 20 (dk_at dksX7_feed_2 18 rfl rfl)
theorem dX7_feed_66 : decode cX7_feed 66 = .ok (.aload_n 0, 1) := dk_42 (dk_at dksX7_feed_2 21 rfl rfl)
theorem dX7_feed_67 : decode cX7_feed 67 = .ok (.getfield 99, 3) := dk_180 0 99 (dk_at dksX7_feed_3 0 rfl rfl)
theorem dX7_feed_70 : decode cX7_feed 70 = .ok (.iload 6, 2) := dk_21 6 (dk_at dksX7_feed_3 3 rfl rfl)
theorem dX7_feed_72 : decode cX7_feed 72 = .ok (.iadd, 1) := dk_96 (dk_at dksX7_feed_3 5 rfl rfl)
theorem dX7_feed_73 : decode cX7_feed 73 = .ok (.aload_n 0, 1) := dk_42 (dk_at dksX7_feed_3 6 rfl rfl)
theorem dX7_feed_74 : decode cX7_feed 74 = .ok (.getfield 24, 3) := dk_180 0 24 (dk_at dksX7_feed_3 7 rfl rfl)
theorem dX7_feed_77 : decode cX7_feed 77 = .ok (.iload 6, 2) := dk_21 6 (dk_at dksX7_feed_3 10 rfl rfl)
theorem dX7_feed_79 : decode cX7_feed 79 = .ok (.iconst 4, 1) := dk_7 (dk_at dksX7_feed_3 12 rfl rfl)
theorem dX7_feed_80 : decode cX7_feed 80 = .ok (.idiv, 1) := dk_108 (dk_at dksX7_feed_3 13 rfl rfl)
theorem dX7_feed_81 : decode cX7_feed 81 = .ok (.iaload, 1) := dk_46 (dk_at dksX7_feed_3 14 rfl rfl)
theorem dX7_feed_82 : decode cX7_feed 82 = .ok (.bipush 24, 2) := dk_16 24 (dk_at dksX7_feed_3 15 rfl rfl)
theorem dX7_feed_84 : decode cX7_feed 84 = .ok (.bipush 8, 2) := dk_16 8 (dk_at dksX7_feed_3 17 rfl rfl)
theorem dX7_feed_86 : decode cX7_feed 86 = .ok (.iload 6, 2) := dk_21 6 (dk_at dksX7_feed_3 19 rfl rfl)
theorem dX7_feed_88 : decode cX7_feed 88 = .ok (.iconst 4, 1) := dk_7 (dk_at dksX7_feed_3 21 rfl rfl)
theorem dX7_feed_89 : decode cX7_feed 89 = .ok (.irem, 1) := dk_112 (dk_at dksX7_feed_3 22 rfl rfl)
theorem dX7_feed_90 : decode cX7_feed 90 = .ok (.imul, 1) := dk_104 (dk_at dksX7_feed_3 23 rfl rfl)
theorem dX7_feed_91 : decode cX7_feed 91 = .ok (.isub, 1) := dk_100 (dk_at dksX7_feed_4 0 rfl rfl)
theorem dX7_feed_92 : decode cX7_feed 92 = .ok (.ishr, 1) := dk_122 (dk_at dksX7_feed_4 1 rfl rfl)
theorem dX7_feed_93 : decode cX7_feed 93 = .ok (.i2b, 1) := dk_145 (dk_at dksX7_feed_4 2 rfl rfl)
theorem dX7_feed_94 : decode cX7_feed 94 = .ok (.bastore, 1) := dk_84 (dk_at dksX7_feed_4 3 rfl rfl)
theorem dX7_feed_95 : decode cX7_feed 95 = .ok (.iinc 6 1, 3) := dk_132 6 1 (dk_at dksX7_feed_4 4 rfl rfl)
theorem dX7_feed_98 : decode cX7_feed 98 = .ok (.goto (-43), 3) := dk_167 255 213 (dk_at dksX7_feed_4 7 rfl rfl)
theorem dX7_feed_101 : decode cX7_feed 101 = .ok (.aload_n 0, 1) := dk_42 (dk_at dksX7_feed_4 10 rfl rfl)
theorem dX7_feed_102 : decode cX7_feed 102 = .ok (.dup, 1) := dk_89 (dk_at dksX7_feed_4 11 rfl rfl)
theorem dX7_feed_103 : decode cX7_feed 103 = .ok (.getfield 99, 3) := dk_180 0 99 (dk_at dksX7_feed_4 12 rfl rfl)
theorem dX7_feed_106 : decode cX7_feed 106 = .ok (.bipush 20, 2) := dk_16 20 (dk_at dksX7_feed_4 15 rfl rfl)
theorem dX7_feed_108 : decode cX7_feed 108 = .ok (.iadd, 1) := dk_96 (dk_at dksX7_feed_4 17 rfl rfl)
theorem dX7_feed_109 : decode cX7_feed 109 = .ok (.putfield 99, 3) := dk_181 0 99 (dk_at dksX7_feed_4 18 rfl rfl)
theorem dX7_feed_112 : decode cX7_feed 112 = .ok (.aload_n 0, 1) := dk_42 (dk_at dksX7_feed_4 21 rfl rfl)
theorem dX7_feed_113 : decode cX7_feed 113 = .ok (.getfield 99, 3) := dk_180 0 99 (dk_at dksX7_feed_5 0 rfl rfl)
theorem dX7_feed_116 : decode cX7_feed 116 = .ok (.ireturn, 1) := dk_172 (dk_at dksX7_feed_5 3 rfl rfl)
abbrev cX7_end : ByteArray := prog_22_method_25_code
def yX7_end : MethodName := ⟨RX7, "end", "(I)I"⟩
def dkwX7_end_0 : List UInt8 := [27, 133, 9, 42, 180, 0, 99, 133, 184, 0, 76, 154, 0, 5, 2, 172, 42, 27, 181, 0, 99, 27, 172]
abbrev dktX7_end_0 : List UInt8 := dkwX7_end_0 ++ []
theorem dksX7_end_0 : cX7_end.data.toList.drop 0 = dktX7_end_0 := by decide +kernel
theorem dX7_end_0 : decode cX7_end 0 = .ok (.iload_n 1, 1) := dk_27 (dk_at dksX7_end_0 0 rfl rfl)
theorem dX7_end_1 : decode cX7_end 1 = .ok (.i2l, 1) := dk_133 (dk_at dksX7_end_0 1 rfl rfl)
theorem dX7_end_2 : decode cX7_end 2 = .ok (.lconst 0, 1) := dk_9 (dk_at dksX7_end_0 2 rfl rfl)
theorem dX7_end_3 : decode cX7_end 3 = .ok (.aload_n 0, 1) := dk_42 (dk_at dksX7_end_0 3 rfl rfl)
theorem dX7_end_4 : decode cX7_end 4 = .ok (.getfield 99, 3) := dk_180 0 99 (dk_at dksX7_end_0 4 rfl rfl)
theorem dX7_end_7 : decode cX7_end 7 = .ok (.i2l, 1) := dk_133 (dk_at dksX7_end_0 7 rfl rfl)
theorem dX7_end_8 : decode cX7_end 8 = .ok (.invokestatic 76, 3) := dk_184 0 76 (dk_at dksX7_end_0 8 rfl rfl)
theorem dX7_end_11 : decode cX7_end 11 = .ok (.ifCond .ne 5, 3) := dk_154 0 5 (dk_at dksX7_end_0 11 rfl rfl)
theorem dX7_end_14 : decode cX7_end 14 = .ok (.iconst (-1), 1) := dk_2 (dk_at dksX7_end_0 14 rfl rfl)
theorem dX7_end_15 : decode cX7_end 15 = .ok (.ireturn, 1) := dk_172 (dk_at dksX7_end_0 15 rfl rfl)
theorem dX7_end_16 : decode cX7_end 16 = .ok (.aload_n 0, 1) := dk_42 (dk_at dksX7_end_0 16 rfl rfl)
theorem dX7_end_17 : decode cX7_end 17 = .ok (.iload_n 1, 1) := dk_27 (dk_at dksX7_end_0 17 rfl rfl)
theorem dX7_end_18 : decode cX7_end 18 = .ok (.putfield 99, 3) := dk_181 0 99 (dk_at dksX7_end_0 18 rfl rfl)
theorem dX7_end_21 : decode cX7_end 21 = .ok (.iload_n 1, 1) := dk_27 (dk_at dksX7_end_0 21 rfl rfl)
theorem dX7_end_22 : decode cX7_end 22 = .ok (.ireturn, 1) := dk_172 (dk_at dksX7_end_0 22 rfl rfl)
abbrev cX7_fault : ByteArray := prog_22_method_35_code
def yX7_fault : MethodName := ⟨RX7, "fault", "(I)I"⟩
def dkwX7_fault_1 : List UInt8 := [172]
abbrev dktX7_fault_1 : List UInt8 := dkwX7_fault_1 ++ []
def dkwX7_fault_0 : List UInt8 := [27, 154, 0, 10, 42, 180, 0, 136, 167, 0, 16, 27, 4, 160, 0, 10, 42, 180, 0, 27, 167, 0, 4, 2]
abbrev dktX7_fault_0 : List UInt8 := dkwX7_fault_0 ++ dktX7_fault_1
theorem dksX7_fault_0 : cX7_fault.data.toList.drop 0 = dktX7_fault_0 := by decide +kernel
theorem dksX7_fault_1 : cX7_fault.data.toList.drop 24 = dktX7_fault_1 := dk_seg dksX7_fault_0 24 rfl rfl
theorem dX7_fault_0 : decode cX7_fault 0 = .ok (.iload_n 1, 1) := dk_27 (dk_at dksX7_fault_0 0 rfl rfl)
theorem dX7_fault_1 : decode cX7_fault 1 = .ok (.ifCond .ne 10, 3) := dk_154 0 10 (dk_at dksX7_fault_0 1 rfl rfl)
theorem dX7_fault_4 : decode cX7_fault 4 = .ok (.aload_n 0, 1) := dk_42 (dk_at dksX7_fault_0 4 rfl rfl)
theorem dX7_fault_5 : decode cX7_fault 5 = .ok (.getfield 136, 3) := dk_180 0 136 (dk_at dksX7_fault_0 5 rfl rfl)
theorem dX7_fault_8 : decode cX7_fault 8 = .ok (.goto 16, 3) := dk_167 0 16 (dk_at dksX7_fault_0 8 rfl rfl)
theorem dX7_fault_11 : decode cX7_fault 11 = .ok (.iload_n 1, 1) := dk_27 (dk_at dksX7_fault_0 11 rfl rfl)
theorem dX7_fault_12 : decode cX7_fault 12 = .ok (.iconst 1, 1) := dk_4 (dk_at dksX7_fault_0 12 rfl rfl)
theorem dX7_fault_13 : decode cX7_fault 13 = .ok (.if_icmp .ne 10, 3) := dk_160 0 10 (dk_at dksX7_fault_0 13 rfl rfl)
theorem dX7_fault_16 : decode cX7_fault 16 = .ok (.aload_n 0, 1) := dk_42 (dk_at dksX7_fault_0 16 rfl rfl)
theorem dX7_fault_17 : decode cX7_fault 17 = .ok (.getfield 27, 3) := dk_180 0 27 (dk_at dksX7_fault_0 17 rfl rfl)
theorem dX7_fault_20 : decode cX7_fault 20 = .ok (.goto 4, 3) := dk_167 0 4 (dk_at dksX7_fault_0 20 rfl rfl)
theorem dX7_fault_23 : decode cX7_fault 23 = .ok (.iconst (-1), 1) := dk_2 (dk_at dksX7_fault_0 23 rfl rfl)
theorem dX7_fault_24 : decode cX7_fault 24 = .ok (.ireturn, 1) := dk_172 (dk_at dksX7_fault_1 0 rfl rfl)
abbrev cX7_base : ByteArray := prog_22_method_46_code
def yX7_base : MethodName := ⟨RX7, "base", "()I"⟩
def dkwX7_base_5 : List UInt8 := [46, 172]
abbrev dktX7_base_5 : List UInt8 := dkwX7_base_5 ++ []
def dkwX7_base_4 : List UInt8 := [42, 180, 0, 9, 27, 42, 180, 0, 31, 27, 46, 79, 132, 1, 1, 167, 255, 235, 42, 180, 0, 9, 16, 7]
abbrev dktX7_base_4 : List UInt8 := dkwX7_base_4 ++ dktX7_base_5
def dkwX7_base_3 : List UInt8 := [182, 0, 249, 167, 255, 238, 42, 182, 0, 139, 154, 0, 6, 16, 252, 172, 3, 60, 27, 16, 76, 162, 0, 21]
abbrev dktX7_base_3 : List UInt8 := dkwX7_base_3 ++ dktX7_base_4
def dkwX7_base_2 : List UInt8 := [167, 255, 240, 42, 182, 0, 155, 42, 182, 0, 139, 153, 0, 17, 42, 180, 0, 115, 153, 0, 10, 42]
abbrev dktX7_base_2 : List UInt8 := dkwX7_base_2 ++ dktX7_base_3
def dkwX7_base_1 : List UInt8 := [2, 181, 0, 27, 3, 60, 27, 16, 76, 162, 0, 16, 42, 180, 0, 31, 27, 3, 79, 132, 1, 1]
abbrev dktX7_base_1 : List UInt8 := dkwX7_base_1 ++ dktX7_base_2
def dkwX7_base_0 : List UInt8 := [42, 42, 180, 0, 99, 181, 0, 102, 42, 3, 181, 0, 99, 42, 3, 181, 0, 105, 42, 3, 181, 0, 136, 42]
abbrev dktX7_base_0 : List UInt8 := dkwX7_base_0 ++ dktX7_base_1
theorem dksX7_base_0 : cX7_base.data.toList.drop 0 = dktX7_base_0 := by decide +kernel
theorem dksX7_base_1 : cX7_base.data.toList.drop 24 = dktX7_base_1 := dk_seg dksX7_base_0 24 rfl rfl
theorem dksX7_base_2 : cX7_base.data.toList.drop 46 = dktX7_base_2 := dk_seg dksX7_base_1 22 rfl rfl
theorem dksX7_base_3 : cX7_base.data.toList.drop 68 = dktX7_base_3 := dk_seg dksX7_base_2 22 rfl rfl
theorem dksX7_base_4 : cX7_base.data.toList.drop 92 = dktX7_base_4 := dk_seg dksX7_base_3 24 rfl rfl
theorem dksX7_base_5 : cX7_base.data.toList.drop 116 = dktX7_base_5 := dk_seg dksX7_base_4 24 rfl rfl
theorem dX7_base_0 : decode cX7_base 0 = .ok (.aload_n 0, 1) := dk_42 (dk_at dksX7_base_0 0 rfl rfl)
theorem dX7_base_1 : decode cX7_base 1 = .ok (.aload_n 0, 1) := dk_42 (dk_at dksX7_base_0 1 rfl rfl)
theorem dX7_base_2 : decode cX7_base 2 = .ok (.getfield 99, 3) := dk_180 0 99 (dk_at dksX7_base_0 2 rfl rfl)
theorem dX7_base_5 : decode cX7_base 5 = .ok (.putfield 102, 3) := dk_181 0 102 (dk_at dksX7_base_0 5 rfl rfl)
theorem dX7_base_8 : decode cX7_base 8 = .ok (.aload_n 0, 1) := dk_42 (dk_at dksX7_base_0 8 rfl rfl)
theorem dX7_base_9 : decode cX7_base 9 = .ok (.iconst 0, 1) := dk_3 (dk_at dksX7_base_0 9 rfl rfl)
theorem dX7_base_10 : decode cX7_base 10 = .ok (.putfield 99, 3) := dk_181 0 99 (dk_at dksX7_base_0 10 rfl rfl)
theorem dX7_base_13 : decode cX7_base 13 = .ok (.aload_n 0, 1) := dk_42 (dk_at dksX7_base_0 13 rfl rfl)
theorem dX7_base_14 : decode cX7_base 14 = .ok (.iconst 0, 1) := dk_3 (dk_at dksX7_base_0 14 rfl rfl)
theorem dX7_base_15 : decode cX7_base 15 = .ok (.putfield 105, 3) := dk_181 0 105 (dk_at dksX7_base_0 15 rfl rfl)
theorem dX7_base_18 : decode cX7_base 18 = .ok (.aload_n 0, 1) := dk_42 (dk_at dksX7_base_0 18 rfl rfl)
theorem dX7_base_19 : decode cX7_base 19 = .ok (.iconst 0, 1) := dk_3 (dk_at dksX7_base_0 19 rfl rfl)
theorem dX7_base_20 : decode cX7_base 20 = .ok (.putfield 136, 3) := dk_181 0 136 (dk_at dksX7_base_0 20 rfl rfl)
theorem dX7_base_23 : decode cX7_base 23 = .ok (.aload_n 0, 1) := dk_42 (dk_at dksX7_base_0 23 rfl rfl)
theorem dX7_base_24 : decode cX7_base 24 = .ok (.iconst (-1), 1) := dk_2 (dk_at dksX7_base_1 0 rfl rfl)
theorem dX7_base_25 : decode cX7_base 25 = .ok (.putfield 27, 3) := dk_181 0 27 (dk_at dksX7_base_1 1 rfl rfl)
theorem dX7_base_28 : decode cX7_base 28 = .ok (.iconst 0, 1) := dk_3 (dk_at dksX7_base_1 4 rfl rfl)
theorem dX7_base_29 : decode cX7_base 29 = .ok (.istore_n 1, 1) := dk_60 (dk_at dksX7_base_1 5 rfl rfl)
theorem dX7_base_30 : decode cX7_base 30 = .ok (.iload_n 1, 1) := dk_27 (dk_at dksX7_base_1 6 rfl rfl)
theorem dX7_base_31 : decode cX7_base 31 = .ok (.bipush 76, 2) := dk_16 76 (dk_at dksX7_base_1 7 rfl rfl)
theorem dX7_base_33 : decode cX7_base 33 = .ok (.if_icmp .ge 16, 3) := dk_162 0 16 (dk_at dksX7_base_1 9 rfl rfl)
theorem dX7_base_36 : decode cX7_base 36 = .ok (.aload_n 0, 1) := dk_42 (dk_at dksX7_base_1 12 rfl rfl)
theorem dX7_base_37 : decode cX7_base 37 = .ok (.getfield 31, 3) := dk_180 0 31 (dk_at dksX7_base_1 13 rfl rfl)
theorem dX7_base_40 : decode cX7_base 40 = .ok (.iload_n 1, 1) := dk_27 (dk_at dksX7_base_1 16 rfl rfl)
theorem dX7_base_41 : decode cX7_base 41 = .ok (.iconst 0, 1) := dk_3 (dk_at dksX7_base_1 17 rfl rfl)
theorem dX7_base_42 : decode cX7_base 42 = .ok (.iastore, 1) := dk_79 (dk_at dksX7_base_1 18 rfl rfl)
theorem dX7_base_43 : decode cX7_base 43 = .ok (.iinc 1 1, 3) := dk_132 1 1 (dk_at dksX7_base_1 19 rfl rfl)
theorem dX7_base_46 : decode cX7_base 46 = .ok (.goto (-16), 3) := dk_167 255 240 (dk_at dksX7_base_2 0 rfl rfl)
theorem dX7_base_49 : decode cX7_base 49 = .ok (.aload_n 0, 1) := dk_42 (dk_at dksX7_base_2 3 rfl rfl)
theorem dX7_base_50 : decode cX7_base 50 = .ok (.invokevirtual 155, 3) := dk_182 0 155 (dk_at dksX7_base_2 4 rfl rfl)
theorem dX7_base_53 : decode cX7_base 53 = .ok (.aload_n 0, 1) := dk_42 (dk_at dksX7_base_2 7 rfl rfl)
theorem dX7_base_54 : decode cX7_base 54 = .ok (.invokevirtual 139, 3) := dk_182 0 139 (dk_at dksX7_base_2 8 rfl rfl)
theorem dX7_base_57 : decode cX7_base 57 = .ok (.ifCond .eq 17, 3) := dk_153 0 17 (dk_at dksX7_base_2 11 rfl rfl)
theorem dX7_base_60 : decode cX7_base 60 = .ok (.aload_n 0, 1) := dk_42 (dk_at dksX7_base_2 14 rfl rfl)
theorem dX7_base_61 : decode cX7_base 61 = .ok (.getfield 115, 3) := dk_180 0 115 (dk_at dksX7_base_2 15 rfl rfl)
theorem dX7_base_64 : decode cX7_base 64 = .ok (.ifCond .eq 10, 3) := dk_153 0 10 (dk_at dksX7_base_2 18 rfl rfl)
theorem dX7_base_67 : decode cX7_base 67 = .ok (.aload_n 0, 1) := dk_42 (dk_at dksX7_base_2 21 rfl rfl)
theorem dX7_base_68 : decode cX7_base 68 = .ok (.invokevirtual 249, 3) := dk_182 0 249 (dk_at dksX7_base_3 0 rfl rfl)
theorem dX7_base_71 : decode cX7_base 71 = .ok (.goto (-18), 3) := dk_167 255 238 (dk_at dksX7_base_3 3 rfl rfl)
theorem dX7_base_74 : decode cX7_base 74 = .ok (.aload_n 0, 1) := dk_42 (dk_at dksX7_base_3 6 rfl rfl)
theorem dX7_base_75 : decode cX7_base 75 = .ok (.invokevirtual 139, 3) := dk_182 0 139 (dk_at dksX7_base_3 7 rfl rfl)
theorem dX7_base_78 : decode cX7_base 78 = .ok (.ifCond .ne 6, 3) := dk_154 0 6 (dk_at dksX7_base_3 10 rfl rfl)
theorem dX7_base_81 : decode cX7_base 81 = .ok (.bipush (-4), 2) := dk_16 252 (dk_at dksX7_base_3 13 rfl rfl)
theorem dX7_base_83 : decode cX7_base 83 = .ok (.ireturn, 1) := dk_172 (dk_at dksX7_base_3 15 rfl rfl)
theorem dX7_base_84 : decode cX7_base 84 = .ok (.iconst 0, 1) := dk_3 (dk_at dksX7_base_3 16 rfl rfl)
theorem dX7_base_85 : decode cX7_base 85 = .ok (.istore_n 1, 1) := dk_60 (dk_at dksX7_base_3 17 rfl rfl)
theorem dX7_base_86 : decode cX7_base 86 = .ok (.iload_n 1, 1) := dk_27 (dk_at dksX7_base_3 18 rfl rfl)
theorem dX7_base_87 : decode cX7_base 87 = .ok (.bipush 76, 2) := dk_16 76 (dk_at dksX7_base_3 19 rfl rfl)
theorem dX7_base_89 : decode cX7_base 89 = .ok (.if_icmp .ge 21, 3) := dk_162 0 21 (dk_at dksX7_base_3 21 rfl rfl)
theorem dX7_base_92 : decode cX7_base 92 = .ok (.aload_n 0, 1) := dk_42 (dk_at dksX7_base_4 0 rfl rfl)
theorem dX7_base_93 : decode cX7_base 93 = .ok (.getfield 9, 3) := dk_180 0 9 (dk_at dksX7_base_4 1 rfl rfl)
theorem dX7_base_96 : decode cX7_base 96 = .ok (.iload_n 1, 1) := dk_27 (dk_at dksX7_base_4 4 rfl rfl)
theorem dX7_base_97 : decode cX7_base 97 = .ok (.aload_n 0, 1) := dk_42 (dk_at dksX7_base_4 5 rfl rfl)
theorem dX7_base_98 : decode cX7_base 98 = .ok (.getfield 31, 3) := dk_180 0 31 (dk_at dksX7_base_4 6 rfl rfl)
theorem dX7_base_101 : decode cX7_base 101 = .ok (.iload_n 1, 1) := dk_27 (dk_at dksX7_base_4 9 rfl rfl)
theorem dX7_base_102 : decode cX7_base 102 = .ok (.iaload, 1) := dk_46 (dk_at dksX7_base_4 10 rfl rfl)
theorem dX7_base_103 : decode cX7_base 103 = .ok (.iastore, 1) := dk_79 (dk_at dksX7_base_4 11 rfl rfl)
theorem dX7_base_104 : decode cX7_base 104 = .ok (.iinc 1 1, 3) := dk_132 1 1 (dk_at dksX7_base_4 12 rfl rfl)
theorem dX7_base_107 : decode cX7_base 107 = .ok (.goto (-21), 3) := dk_167 255 235 (dk_at dksX7_base_4 15 rfl rfl)
theorem dX7_base_110 : decode cX7_base 110 = .ok (.aload_n 0, 1) := dk_42 (dk_at dksX7_base_4 18 rfl rfl)
theorem dX7_base_111 : decode cX7_base 111 = .ok (.getfield 9, 3) := dk_180 0 9 (dk_at dksX7_base_4 19 rfl rfl)
theorem dX7_base_114 : decode cX7_base 114 = .ok (.bipush 7, 2) := dk_16 7 (dk_at dksX7_base_4 22 rfl rfl)
theorem dX7_base_116 : decode cX7_base 116 = .ok (.iaload, 1) := dk_46 (dk_at dksX7_base_5 0 rfl rfl)
theorem dX7_base_117 : decode cX7_base 117 = .ok (.ireturn, 1) := dk_172 (dk_at dksX7_base_5 1 rfl rfl)
abbrev cX7_advance : ByteArray := prog_22_method_27_code
def yX7_advance : MethodName := ⟨RX7, "advance", "()V"⟩
def dkwX7_advance_10 : List UInt8 := [96, 181, 0, 105, 177]
abbrev dktX7_advance_10 : List UInt8 := dkwX7_advance_10 ++ []
def dkwX7_advance_9 : List UInt8 := [167, 0, 28, 42, 27, 16, 59, 160, 0, 7, 6, 167, 0, 4, 7, 181, 0, 115, 42, 89, 180, 0, 105, 4]
abbrev dktX7_advance_9 : List UInt8 := dkwX7_advance_9 ++ dktX7_advance_10
def dkwX7_advance_8 : List UInt8 := [184, 0, 130, 181, 0, 126, 42, 89, 180, 0, 105, 4, 96, 181, 0, 105, 167, 255, 197, 42, 5, 181, 0, 115]
abbrev dktX7_advance_8 : List UInt8 := dkwX7_advance_8 ++ dktX7_advance_9
def dkwX7_advance_7 : List UInt8 := [42, 18, 129, 16, 10, 42, 180, 0, 126, 104, 42, 42, 180, 0, 105, 182, 0, 108, 96, 16, 48, 100]
abbrev dktX7_advance_7 : List UInt8 := dkwX7_advance_7 ++ dktX7_advance_8
def dkwX7_advance_6 : List UInt8 := [181, 0, 126, 42, 42, 180, 0, 105, 182, 0, 108, 133, 20, 0, 122, 20, 0, 124, 184, 0, 76, 153, 0, 44]
abbrev dktX7_advance_6 : List UInt8 := dkwX7_advance_6 ++ dktX7_advance_7
def dkwX7_advance_5 : List UInt8 := [181, 0, 115, 167, 0, 117, 27, 133, 20, 0, 122, 20, 0, 124, 184, 0, 76, 153, 0, 78, 42, 3]
abbrev dktX7_advance_5 : List UInt8 := dkwX7_advance_5 ++ dktX7_advance_6
def dkwX7_advance_4 : List UInt8 := [20, 0, 120, 184, 0, 76, 153, 0, 16, 42, 89, 180, 0, 105, 4, 96, 181, 0, 105, 167, 255, 225, 42, 4]
abbrev dktX7_advance_4 : List UInt8 := dkwX7_advance_4 ++ dktX7_advance_5
def dkwX7_advance_3 : List UInt8 := [20, 0, 118, 20, 0, 120, 184, 0, 76, 153, 0, 45, 42, 42, 180, 0, 105, 182, 0, 108, 133, 20, 0, 118]
abbrev dktX7_advance_3 : List UInt8 := dkwX7_advance_3 ++ dktX7_advance_4
def dkwX7_advance_2 : List UInt8 := [42, 42, 180, 0, 105, 182, 0, 108, 60, 27, 2, 160, 0, 11, 42, 3, 181, 0, 115, 167, 0, 173, 27, 133]
abbrev dktX7_advance_2 : List UInt8 := dkwX7_advance_2 ++ dktX7_advance_3
def dkwX7_advance_1 : List UInt8 := [160, 0, 16, 42, 89, 180, 0, 105, 4, 96, 181, 0, 105, 167, 255, 220, 42, 42, 180, 0, 105, 181, 0, 112]
abbrev dktX7_advance_1 : List UInt8 := dkwX7_advance_1 ++ dktX7_advance_2
def dkwX7_advance_0 : List UInt8 := [42, 42, 180, 0, 105, 182, 0, 108, 16, 32, 159, 0, 16, 42, 42, 180, 0, 105, 182, 0, 108, 16, 10]
abbrev dktX7_advance_0 : List UInt8 := dkwX7_advance_0 ++ dktX7_advance_1
theorem dksX7_advance_0 : cX7_advance.data.toList.drop 0 = dktX7_advance_0 := by decide +kernel
theorem dksX7_advance_1 : cX7_advance.data.toList.drop 23 = dktX7_advance_1 := dk_seg dksX7_advance_0 23 rfl rfl
theorem dksX7_advance_2 : cX7_advance.data.toList.drop 47 = dktX7_advance_2 := dk_seg dksX7_advance_1 24 rfl rfl
theorem dksX7_advance_3 : cX7_advance.data.toList.drop 71 = dktX7_advance_3 := dk_seg dksX7_advance_2 24 rfl rfl
theorem dksX7_advance_4 : cX7_advance.data.toList.drop 95 = dktX7_advance_4 := dk_seg dksX7_advance_3 24 rfl rfl
theorem dksX7_advance_5 : cX7_advance.data.toList.drop 119 = dktX7_advance_5 := dk_seg dksX7_advance_4 24 rfl rfl
theorem dksX7_advance_6 : cX7_advance.data.toList.drop 141 = dktX7_advance_6 := dk_seg dksX7_advance_5 22 rfl rfl
theorem dksX7_advance_7 : cX7_advance.data.toList.drop 165 = dktX7_advance_7 := dk_seg dksX7_advance_6 24 rfl rfl
theorem dksX7_advance_8 : cX7_advance.data.toList.drop 187 = dktX7_advance_8 := dk_seg dksX7_advance_7 22 rfl rfl
theorem dksX7_advance_9 : cX7_advance.data.toList.drop 211 = dktX7_advance_9 := dk_seg dksX7_advance_8 24 rfl rfl
theorem dksX7_advance_10 : cX7_advance.data.toList.drop 235 = dktX7_advance_10 := dk_seg dksX7_advance_9 24 rfl rfl
theorem dX7_advance_0 : decode cX7_advance 0 = .ok (.aload_n 0, 1) := dk_42 (dk_at dksX7_advance_0 0 rfl rfl)
theorem dX7_advance_1 : decode cX7_advance 1 = .ok (.aload_n 0, 1) := dk_42 (dk_at dksX7_advance_0 1 rfl rfl)
theorem dX7_advance_2 : decode cX7_advance 2 = .ok (.getfield 105, 3) := dk_180 0 105 (dk_at dksX7_advance_0 2 rfl rfl)
theorem dX7_advance_5 : decode cX7_advance 5 = .ok (.invokevirtual 108, 3) := dk_182 0 108 (dk_at dksX7_advance_0 5 rfl rfl)
theorem dX7_advance_8 : decode cX7_advance 8 = .ok (.bipush 32, 2) := dk_16 32 (dk_at dksX7_advance_0 8 rfl rfl)
theorem dX7_advance_10 : decode cX7_advance 10 = .ok (.if_icmp .eq 16, 3) := dk_159 0 16 (dk_at dksX7_advance_0 10 rfl rfl)
theorem dX7_advance_13 : decode cX7_advance 13 = .ok (.aload_n 0, 1) := dk_42 (dk_at dksX7_advance_0 13 rfl rfl)
theorem dX7_advance_14 : decode cX7_advance 14 = .ok (.aload_n 0, 1) := dk_42 (dk_at dksX7_advance_0 14 rfl rfl)
theorem dX7_advance_15 : decode cX7_advance 15 = .ok (.getfield 105, 3) := dk_180 0 105 (dk_at dksX7_advance_0 15 rfl rfl)
theorem dX7_advance_18 : decode cX7_advance 18 = .ok (.invokevirtual 108, 3) := dk_182 0 108 (dk_at dksX7_advance_0 18 rfl rfl)
theorem dX7_advance_21 : decode cX7_advance 21 = .ok (.bipush 10, 2) := dk_16 10 (dk_at dksX7_advance_0 21 rfl rfl)
theorem dX7_advance_23 : decode cX7_advance 23 = .ok (.if_icmp .ne 16, 3) := dk_160 0 16 (dk_at dksX7_advance_1 0 rfl rfl)
theorem dX7_advance_26 : decode cX7_advance 26 = .ok (.aload_n 0, 1) := dk_42 (dk_at dksX7_advance_1 3 rfl rfl)
theorem dX7_advance_27 : decode cX7_advance 27 = .ok (.dup, 1) := dk_89 (dk_at dksX7_advance_1 4 rfl rfl)
theorem dX7_advance_28 : decode cX7_advance 28 = .ok (.getfield 105, 3) := dk_180 0 105 (dk_at dksX7_advance_1 5 rfl rfl)
theorem dX7_advance_31 : decode cX7_advance 31 = .ok (.iconst 1, 1) := dk_4 (dk_at dksX7_advance_1 8 rfl rfl)
theorem dX7_advance_32 : decode cX7_advance 32 = .ok (.iadd, 1) := dk_96 (dk_at dksX7_advance_1 9 rfl rfl)
theorem dX7_advance_33 : decode cX7_advance 33 = .ok (.putfield 105, 3) := dk_181 0 105 (dk_at dksX7_advance_1 10 rfl rfl)
theorem dX7_advance_36 : decode cX7_advance 36 = .ok (.goto (-36), 3) := dk_167 255 220 (dk_at dksX7_advance_1 13 rfl rfl)
theorem dX7_advance_39 : decode cX7_advance 39 = .ok (.aload_n 0, 1) := dk_42 (dk_at dksX7_advance_1 16 rfl rfl)
theorem dX7_advance_40 : decode cX7_advance 40 = .ok (.aload_n 0, 1) := dk_42 (dk_at dksX7_advance_1 17 rfl rfl)
theorem dX7_advance_41 : decode cX7_advance 41 = .ok (.getfield 105, 3) := dk_180 0 105 (dk_at dksX7_advance_1 18 rfl rfl)
theorem dX7_advance_44 : decode cX7_advance 44 = .ok (.putfield 112, 3) := dk_181 0 112 (dk_at dksX7_advance_1 21 rfl rfl)
theorem dX7_advance_47 : decode cX7_advance 47 = .ok (.aload_n 0, 1) := dk_42 (dk_at dksX7_advance_2 0 rfl rfl)
theorem dX7_advance_48 : decode cX7_advance 48 = .ok (.aload_n 0, 1) := dk_42 (dk_at dksX7_advance_2 1 rfl rfl)
theorem dX7_advance_49 : decode cX7_advance 49 = .ok (.getfield 105, 3) := dk_180 0 105 (dk_at dksX7_advance_2 2 rfl rfl)
theorem dX7_advance_52 : decode cX7_advance 52 = .ok (.invokevirtual 108, 3) := dk_182 0 108 (dk_at dksX7_advance_2 5 rfl rfl)
theorem dX7_advance_55 : decode cX7_advance 55 = .ok (.istore_n 1, 1) := dk_60 (dk_at dksX7_advance_2 8 rfl rfl)
theorem dX7_advance_56 : decode cX7_advance 56 = .ok (.iload_n 1, 1) := dk_27 (dk_at dksX7_advance_2 9 rfl rfl)
theorem dX7_advance_57 : decode cX7_advance 57 = .ok (.iconst (-1), 1) := dk_2 (dk_at dksX7_advance_2 10 rfl rfl)
theorem dX7_advance_58 : decode cX7_advance 58 = .ok (.if_icmp .ne 11, 3) := dk_160 0 11 (dk_at dksX7_advance_2 11 rfl rfl)
theorem dX7_advance_61 : decode cX7_advance 61 = .ok (.aload_n 0, 1) := dk_42 (dk_at dksX7_advance_2 14 rfl rfl)
theorem dX7_advance_62 : decode cX7_advance 62 = .ok (.iconst 0, 1) := dk_3 (dk_at dksX7_advance_2 15 rfl rfl)
theorem dX7_advance_63 : decode cX7_advance 63 = .ok (.putfield 115, 3) := dk_181 0 115 (dk_at dksX7_advance_2 16 rfl rfl)
theorem dX7_advance_66 : decode cX7_advance 66 = .ok (.goto 173, 3) := dk_167 0 173 (dk_at dksX7_advance_2 19 rfl rfl)
theorem dX7_advance_69 : decode cX7_advance 69 = .ok (.iload_n 1, 1) := dk_27 (dk_at dksX7_advance_2 22 rfl rfl)
theorem dX7_advance_70 : decode cX7_advance 70 = .ok (.i2l, 1) := dk_133 (dk_at dksX7_advance_2 23 rfl rfl)
theorem dX7_advance_71 : decode cX7_advance 71 = .ok (.ldc2_w 118, 3) := dk_20 0 118 (dk_at dksX7_advance_3 0 rfl rfl)
theorem dX7_advance_74 : decode cX7_advance 74 = .ok (.ldc2_w 120, 3) := dk_20 0 120 (dk_at dksX7_advance_3 3 rfl rfl)
theorem dX7_advance_77 : decode cX7_advance 77 = .ok (.invokestatic 76, 3) := dk_184 0 76 (dk_at dksX7_advance_3 6 rfl rfl)
theorem dX7_advance_80 : decode cX7_advance 80 = .ok (.ifCond .eq 45, 3) := dk_153 0 45 (dk_at dksX7_advance_3 9 rfl rfl)
theorem dX7_advance_83 : decode cX7_advance 83 = .ok (.aload_n 0, 1) := dk_42 (dk_at dksX7_advance_3 12 rfl rfl)
theorem dX7_advance_84 : decode cX7_advance 84 = .ok (.aload_n 0, 1) := dk_42 (dk_at dksX7_advance_3 13 rfl rfl)
theorem dX7_advance_85 : decode cX7_advance 85 = .ok (.getfield 105, 3) := dk_180 0 105 (dk_at dksX7_advance_3 14 rfl rfl)
theorem dX7_advance_88 : decode cX7_advance 88 = .ok (.invokevirtual 108, 3) := dk_182 0 108 (dk_at dksX7_advance_3 17 rfl rfl)
theorem dX7_advance_91 : decode cX7_advance 91 = .ok (.i2l, 1) := dk_133 (dk_at dksX7_advance_3 20 rfl rfl)
theorem dX7_advance_92 : decode cX7_advance 92 = .ok (.ldc2_w 118, 3) := dk_20 0 118 (dk_at dksX7_advance_3 21 rfl rfl)
theorem dX7_advance_95 : decode cX7_advance 95 = .ok (.ldc2_w 120, 3) := dk_20 0 120 (dk_at dksX7_advance_4 0 rfl rfl)
theorem dX7_advance_98 : decode cX7_advance 98 = .ok (.invokestatic 76, 3) := dk_184 0 76 (dk_at dksX7_advance_4 3 rfl rfl)
theorem dX7_advance_101 : decode cX7_advance 101 = .ok (.ifCond .eq 16, 3) := dk_153 0 16 (dk_at dksX7_advance_4 6 rfl rfl)
theorem dX7_advance_104 : decode cX7_advance 104 = .ok (.aload_n 0, 1) := dk_42 (dk_at dksX7_advance_4 9 rfl rfl)
theorem dX7_advance_105 : decode cX7_advance 105 = .ok (.dup, 1) := dk_89 (dk_at dksX7_advance_4 10 rfl rfl)
theorem dX7_advance_106 : decode cX7_advance 106 = .ok (.getfield 105, 3) := dk_180 0 105 (dk_at dksX7_advance_4 11 rfl rfl)
theorem dX7_advance_109 : decode cX7_advance 109 = .ok (.iconst 1, 1) := dk_4 (dk_at dksX7_advance_4 14 rfl rfl)
theorem dX7_advance_110 : decode cX7_advance 110 = .ok (.iadd, 1) := dk_96 (dk_at dksX7_advance_4 15 rfl rfl)
theorem dX7_advance_111 : decode cX7_advance 111 = .ok (.putfield 105, 3) := dk_181 0 105 (dk_at dksX7_advance_4 16 rfl rfl)
theorem dX7_advance_114 : decode cX7_advance 114 = .ok (.goto (-31), 3) := dk_167 255 225 (dk_at dksX7_advance_4 19 rfl rfl)
theorem dX7_advance_117 : decode cX7_advance 117 = .ok (.aload_n 0, 1) := dk_42 (dk_at dksX7_advance_4 22 rfl rfl)
theorem dX7_advance_118 : decode cX7_advance 118 = .ok (.iconst 1, 1) := dk_4 (dk_at dksX7_advance_4 23 rfl rfl)
theorem dX7_advance_119 : decode cX7_advance 119 = .ok (.putfield 115, 3) := dk_181 0 115 (dk_at dksX7_advance_5 0 rfl rfl)
theorem dX7_advance_122 : decode cX7_advance 122 = .ok (.goto 117, 3) := dk_167 0 117 (dk_at dksX7_advance_5 3 rfl rfl)
theorem dX7_advance_125 : decode cX7_advance 125 = .ok (.iload_n 1, 1) := dk_27 (dk_at dksX7_advance_5 6 rfl rfl)
theorem dX7_advance_126 : decode cX7_advance 126 = .ok (.i2l, 1) := dk_133 (dk_at dksX7_advance_5 7 rfl rfl)
theorem dX7_advance_127 : decode cX7_advance 127 = .ok (.ldc2_w 122, 3) := dk_20 0 122 (dk_at dksX7_advance_5 8 rfl rfl)
theorem dX7_advance_130 : decode cX7_advance 130 = .ok (.ldc2_w 124, 3) := dk_20 0 124 (dk_at dksX7_advance_5 11 rfl rfl)
theorem dX7_advance_133 : decode cX7_advance 133 = .ok (.invokestatic 76, 3) := dk_184 0 76 (dk_at dksX7_advance_5 14 rfl rfl)
theorem dX7_advance_136 : decode cX7_advance 136 = .ok (.ifCond .eq 78, 3) := dk_153 0 78 (dk_at dksX7_advance_5 17 rfl rfl)
theorem dX7_advance_139 : decode cX7_advance 139 = .ok (.aload_n 0, 1) := dk_42 (dk_at dksX7_advance_5 20 rfl rfl)
theorem dX7_advance_140 : decode cX7_advance 140 = .ok (.iconst 0, 1) := dk_3 (dk_at dksX7_advance_5 21 rfl rfl)
theorem dX7_advance_141 : decode cX7_advance 141 = .ok (.putfield 126, 3) := dk_181 0 126 (dk_at dksX7_advance_6 0 rfl rfl)
theorem dX7_advance_144 : decode cX7_advance 144 = .ok (.aload_n 0, 1) := dk_42 (dk_at dksX7_advance_6 3 rfl rfl)
theorem dX7_advance_145 : decode cX7_advance 145 = .ok (.aload_n 0, 1) := dk_42 (dk_at dksX7_advance_6 4 rfl rfl)
theorem dX7_advance_146 : decode cX7_advance 146 = .ok (.getfield 105, 3) := dk_180 0 105 (dk_at dksX7_advance_6 5 rfl rfl)
theorem dX7_advance_149 : decode cX7_advance 149 = .ok (.invokevirtual 108, 3) := dk_182 0 108 (dk_at dksX7_advance_6 8 rfl rfl)
theorem dX7_advance_152 : decode cX7_advance 152 = .ok (.i2l, 1) := dk_133 (dk_at dksX7_advance_6 11 rfl rfl)
theorem dX7_advance_153 : decode cX7_advance 153 = .ok (.ldc2_w 122, 3) := dk_20 0 122 (dk_at dksX7_advance_6 12 rfl rfl)
theorem dX7_advance_156 : decode cX7_advance 156 = .ok (.ldc2_w 124, 3) := dk_20 0 124 (dk_at dksX7_advance_6 15 rfl rfl)
theorem dX7_advance_159 : decode cX7_advance 159 = .ok (.invokestatic 76, 3) := dk_184 0 76 (dk_at dksX7_advance_6 18 rfl rfl)
theorem dX7_advance_162 : decode cX7_advance 162 = .ok (.ifCond .eq 44, 3) := dk_153 0 44 (dk_at dksX7_advance_6 21 rfl rfl)
theorem dX7_advance_165 : decode cX7_advance 165 = .ok (.aload_n 0, 1) := dk_42 (dk_at dksX7_advance_7 0 rfl rfl)
theorem dX7_advance_166 : decode cX7_advance 166 = .ok (.ldc 129, 2) := dk_18 129 (dk_at dksX7_advance_7 1 rfl rfl)
theorem dX7_advance_168 : decode cX7_advance 168 = .ok (.bipush 10, 2) := dk_16 10 (dk_at dksX7_advance_7 3 rfl rfl)
theorem dX7_advance_170 : decode cX7_advance 170 = .ok (.aload_n 0, 1) := dk_42 (dk_at dksX7_advance_7 5 rfl rfl)
theorem dX7_advance_171 : decode cX7_advance 171 = .ok (.getfield 126, 3) := dk_180 0 126 (dk_at dksX7_advance_7 6 rfl rfl)
theorem dX7_advance_174 : decode cX7_advance 174 = .ok (.imul, 1) := dk_104 (dk_at dksX7_advance_7 9 rfl rfl)
theorem dX7_advance_175 : decode cX7_advance 175 = .ok (.aload_n 0, 1) := dk_42 (dk_at dksX7_advance_7 10 rfl rfl)
theorem dX7_advance_176 : decode cX7_advance 176 = .ok (.aload_n 0, 1) := dk_42 (dk_at dksX7_advance_7 11 rfl rfl)
theorem dX7_advance_177 : decode cX7_advance 177 = .ok (.getfield 105, 3) := dk_180 0 105 (dk_at dksX7_advance_7 12 rfl rfl)
theorem dX7_advance_180 : decode cX7_advance 180 = .ok (.invokevirtual 108, 3) := dk_182 0 108 (dk_at dksX7_advance_7 15 rfl rfl)
theorem dX7_advance_183 : decode cX7_advance 183 = .ok (.iadd, 1) := dk_96 (dk_at dksX7_advance_7 18 rfl rfl)
theorem dX7_advance_184 : decode cX7_advance 184 = .ok (.bipush 48, 2) := dk_16 48 (dk_at dksX7_advance_7 19 rfl rfl)
theorem dX7_advance_186 : decode cX7_advance 186 = .ok (.isub, 1) := dk_100 (dk_at dksX7_advance_7 21 rfl rfl)
theorem dX7_advance_187 : decode cX7_advance 187 = .ok (.invokestatic 130, 3) := dk_184 0 130 (dk_at dksX7_advance_8 0 rfl rfl)
theorem dX7_advance_190 : decode cX7_advance 190 = .ok (.putfield 126, 3) := dk_181 0 126 (dk_at dksX7_advance_8 3 rfl rfl)
theorem dX7_advance_193 : decode cX7_advance 193 = .ok (.aload_n 0, 1) := dk_42 (dk_at dksX7_advance_8 6 rfl rfl)
theorem dX7_advance_194 : decode cX7_advance 194 = .ok (.dup, 1) := dk_89 (dk_at dksX7_advance_8 7 rfl rfl)
theorem dX7_advance_195 : decode cX7_advance 195 = .ok (.getfield 105, 3) := dk_180 0 105 (dk_at dksX7_advance_8 8 rfl rfl)
theorem dX7_advance_198 : decode cX7_advance 198 = .ok (.iconst 1, 1) := dk_4 (dk_at dksX7_advance_8 11 rfl rfl)
theorem dX7_advance_199 : decode cX7_advance 199 = .ok (.iadd, 1) := dk_96 (dk_at dksX7_advance_8 12 rfl rfl)
theorem dX7_advance_200 : decode cX7_advance 200 = .ok (.putfield 105, 3) := dk_181 0 105 (dk_at dksX7_advance_8 13 rfl rfl)
theorem dX7_advance_203 : decode cX7_advance 203 = .ok (.goto (-59), 3) := dk_167 255 197 (dk_at dksX7_advance_8 16 rfl rfl)
theorem dX7_advance_206 : decode cX7_advance 206 = .ok (.aload_n 0, 1) := dk_42 (dk_at dksX7_advance_8 19 rfl rfl)
theorem dX7_advance_207 : decode cX7_advance 207 = .ok (.iconst 2, 1) := dk_5 (dk_at dksX7_advance_8 20 rfl rfl)
theorem dX7_advance_208 : decode cX7_advance 208 = .ok (.putfield 115, 3) := dk_181 0 115 (dk_at dksX7_advance_8 21 rfl rfl)
theorem dX7_advance_211 : decode cX7_advance 211 = .ok (.goto 28, 3) := dk_167 0 28 (dk_at dksX7_advance_9 0 rfl rfl)
theorem dX7_advance_214 : decode cX7_advance 214 = .ok (.aload_n 0, 1) := dk_42 (dk_at dksX7_advance_9 3 rfl rfl)
theorem dX7_advance_215 : decode cX7_advance 215 = .ok (.iload_n 1, 1) := dk_27 (dk_at dksX7_advance_9 4 rfl rfl)
theorem dX7_advance_216 : decode cX7_advance 216 = .ok (.bipush 59, 2) := dk_16 59 (dk_at dksX7_advance_9 5 rfl rfl)
theorem dX7_advance_218 : decode cX7_advance 218 = .ok (.if_icmp .ne 7, 3) := dk_160 0 7 (dk_at dksX7_advance_9 7 rfl rfl)
theorem dX7_advance_221 : decode cX7_advance 221 = .ok (.iconst 3, 1) := dk_6 (dk_at dksX7_advance_9 10 rfl rfl)
theorem dX7_advance_222 : decode cX7_advance 222 = .ok (.goto 4, 3) := dk_167 0 4 (dk_at dksX7_advance_9 11 rfl rfl)
theorem dX7_advance_225 : decode cX7_advance 225 = .ok (.iconst 4, 1) := dk_7 (dk_at dksX7_advance_9 14 rfl rfl)
theorem dX7_advance_226 : decode cX7_advance 226 = .ok (.putfield 115, 3) := dk_181 0 115 (dk_at dksX7_advance_9 15 rfl rfl)
theorem dX7_advance_229 : decode cX7_advance 229 = .ok (.aload_n 0, 1) := dk_42 (dk_at dksX7_advance_9 18 rfl rfl)
theorem dX7_advance_230 : decode cX7_advance 230 = .ok (.dup, 1) := dk_89 (dk_at dksX7_advance_9 19 rfl rfl)
theorem dX7_advance_231 : decode cX7_advance 231 = .ok (.getfield 105, 3) := dk_180 0 105 (dk_at dksX7_advance_9 20 rfl rfl)
theorem dX7_advance_234 : decode cX7_advance 234 = .ok (.iconst 1, 1) := dk_4 (dk_at dksX7_advance_9 23 rfl rfl)
theorem dX7_advance_235 : decode cX7_advance 235 = .ok (.iadd, 1) := dk_96 (dk_at dksX7_advance_10 0 rfl rfl)
theorem dX7_advance_236 : decode cX7_advance 236 = .ok (.putfield 105, 3) := dk_181 0 105 (dk_at dksX7_advance_10 1 rfl rfl)
theorem dX7_advance_239 : decode cX7_advance 239 = .ok (.return_, 1) := dk_177 (dk_at dksX7_advance_10 4 rfl rfl)
abbrev cX7_see : ByteArray := prog_22_method_26_code
def yX7_see : MethodName := ⟨RX7, "see", "(I)I"⟩
def dkwX7_see_0 : List UInt8 := [27, 42, 180, 0, 102, 162, 0, 16, 42, 180, 0, 20, 27, 51, 17, 0, 255, 126, 167, 0, 4, 2, 172]
abbrev dktX7_see_0 : List UInt8 := dkwX7_see_0 ++ []
theorem dksX7_see_0 : cX7_see.data.toList.drop 0 = dktX7_see_0 := by decide +kernel
theorem dX7_see_0 : decode cX7_see 0 = .ok (.iload_n 1, 1) := dk_27 (dk_at dksX7_see_0 0 rfl rfl)
theorem dX7_see_1 : decode cX7_see 1 = .ok (.aload_n 0, 1) := dk_42 (dk_at dksX7_see_0 1 rfl rfl)
theorem dX7_see_2 : decode cX7_see 2 = .ok (.getfield 102, 3) := dk_180 0 102 (dk_at dksX7_see_0 2 rfl rfl)
theorem dX7_see_5 : decode cX7_see 5 = .ok (.if_icmp .ge 16, 3) := dk_162 0 16 (dk_at dksX7_see_0 5 rfl rfl)
theorem dX7_see_8 : decode cX7_see 8 = .ok (.aload_n 0, 1) := dk_42 (dk_at dksX7_see_0 8 rfl rfl)
theorem dX7_see_9 : decode cX7_see 9 = .ok (.getfield 20, 3) := dk_180 0 20 (dk_at dksX7_see_0 9 rfl rfl)
theorem dX7_see_12 : decode cX7_see 12 = .ok (.iload_n 1, 1) := dk_27 (dk_at dksX7_see_0 12 rfl rfl)
theorem dX7_see_13 : decode cX7_see 13 = .ok (.baload, 1) := dk_51 (dk_at dksX7_see_0 13 rfl rfl)
theorem dX7_see_14 : decode cX7_see 14 = .ok (.sipush 255, 3) := dk_17 0 255 (dk_at dksX7_see_0 14 rfl rfl)
theorem dX7_see_17 : decode cX7_see 17 = .ok (.iand, 1) := dk_126 (dk_at dksX7_see_0 17 rfl rfl)
theorem dX7_see_18 : decode cX7_see 18 = .ok (.goto 4, 3) := dk_167 0 4 (dk_at dksX7_see_0 18 rfl rfl)
theorem dX7_see_21 : decode cX7_see 21 = .ok (.iconst (-1), 1) := dk_2 (dk_at dksX7_see_0 21 rfl rfl)
theorem dX7_see_22 : decode cX7_see 22 = .ok (.ireturn, 1) := dk_172 (dk_at dksX7_see_0 22 rfl rfl)
abbrev cX7_good : ByteArray := prog_22_method_28_code
def yX7_good : MethodName := ⟨RX7, "good", "()Z"⟩
def dkwX7_good_0 : List UInt8 := [42, 180, 0, 136, 154, 0, 7, 4, 167, 0, 4, 3, 172]
abbrev dktX7_good_0 : List UInt8 := dkwX7_good_0 ++ []
theorem dksX7_good_0 : cX7_good.data.toList.drop 0 = dktX7_good_0 := by decide +kernel
theorem dX7_good_0 : decode cX7_good 0 = .ok (.aload_n 0, 1) := dk_42 (dk_at dksX7_good_0 0 rfl rfl)
theorem dX7_good_1 : decode cX7_good 1 = .ok (.getfield 136, 3) := dk_180 0 136 (dk_at dksX7_good_0 1 rfl rfl)
theorem dX7_good_4 : decode cX7_good 4 = .ok (.ifCond .ne 7, 3) := dk_154 0 7 (dk_at dksX7_good_0 4 rfl rfl)
theorem dX7_good_7 : decode cX7_good 7 = .ok (.iconst 1, 1) := dk_4 (dk_at dksX7_good_0 7 rfl rfl)
theorem dX7_good_8 : decode cX7_good 8 = .ok (.goto 4, 3) := dk_167 0 4 (dk_at dksX7_good_0 8 rfl rfl)
theorem dX7_good_11 : decode cX7_good 11 = .ok (.iconst 0, 1) := dk_3 (dk_at dksX7_good_0 11 rfl rfl)
theorem dX7_good_12 : decode cX7_good 12 = .ok (.ireturn, 1) := dk_172 (dk_at dksX7_good_0 12 rfl rfl)
abbrev cX7_readLine : ByteArray := prog_22_method_45_code
def yX7_readLine : MethodName := ⟨RX7, "readLine", "()V"⟩
def dkwX7_readLine_2 : List UInt8 := [153, 0, 7, 42, 182, 0, 155, 42, 180, 0, 31, 16, 7, 92, 46, 4, 96, 79, 177]
abbrev dktX7_readLine_2 : List UInt8 := dkwX7_readLine_2 ++ []
def dkwX7_readLine_1 : List UInt8 := [182, 0, 139, 153, 0, 16, 42, 180, 0, 115, 6, 159, 0, 8, 42, 4, 182, 0, 161, 42, 182, 0, 139]
abbrev dktX7_readLine_1 : List UInt8 := dkwX7_readLine_1 ++ dktX7_readLine_2
def dkwX7_readLine_0 : List UInt8 := [42, 180, 0, 31, 16, 7, 46, 154, 0, 10, 42, 182, 0, 243, 167, 0, 7, 42, 182, 0, 246, 42]
abbrev dktX7_readLine_0 : List UInt8 := dkwX7_readLine_0 ++ dktX7_readLine_1
theorem dksX7_readLine_0 : cX7_readLine.data.toList.drop 0 = dktX7_readLine_0 := by decide +kernel
theorem dksX7_readLine_1 : cX7_readLine.data.toList.drop 22 = dktX7_readLine_1 := dk_seg dksX7_readLine_0 22 rfl rfl
theorem dksX7_readLine_2 : cX7_readLine.data.toList.drop 45 = dktX7_readLine_2 := dk_seg dksX7_readLine_1 23 rfl rfl
theorem dX7_readLine_0 : decode cX7_readLine 0 = .ok (.aload_n 0, 1) := dk_42 (dk_at dksX7_readLine_0 0 rfl rfl)
theorem dX7_readLine_1 : decode cX7_readLine 1 = .ok (.getfield 31, 3) := dk_180 0 31 (dk_at dksX7_readLine_0 1 rfl rfl)
theorem dX7_readLine_4 : decode cX7_readLine 4 = .ok (.bipush 7, 2) := dk_16 7 (dk_at dksX7_readLine_0 4 rfl rfl)
theorem dX7_readLine_6 : decode cX7_readLine 6 = .ok (.iaload, 1) := dk_46 (dk_at dksX7_readLine_0 6 rfl rfl)
theorem dX7_readLine_7 : decode cX7_readLine 7 = .ok (.ifCond .ne 10, 3) := dk_154 0 10 (dk_at dksX7_readLine_0 7 rfl rfl)
theorem dX7_readLine_10 : decode cX7_readLine 10 = .ok (.aload_n 0, 1) := dk_42 (dk_at dksX7_readLine_0 10 rfl rfl)
theorem dX7_readLine_11 : decode cX7_readLine 11 = .ok (.invokevirtual 243, 3) := dk_182 0 243 (dk_at dksX7_readLine_0 11 rfl rfl)
theorem dX7_readLine_14 : decode cX7_readLine 14 = .ok (.goto 7, 3) := dk_167 0 7 (dk_at dksX7_readLine_0 14 rfl rfl)
theorem dX7_readLine_17 : decode cX7_readLine 17 = .ok (.aload_n 0, 1) := dk_42 (dk_at dksX7_readLine_0 17 rfl rfl)
theorem dX7_readLine_18 : decode cX7_readLine 18 = .ok (.invokevirtual 246, 3) := dk_182 0 246 (dk_at dksX7_readLine_0 18 rfl rfl)
theorem dX7_readLine_21 : decode cX7_readLine 21 = .ok (.aload_n 0, 1) := dk_42 (dk_at dksX7_readLine_0 21 rfl rfl)
theorem dX7_readLine_22 : decode cX7_readLine 22 = .ok (.invokevirtual 139, 3) := dk_182 0 139 (dk_at dksX7_readLine_1 0 rfl rfl)
theorem dX7_readLine_25 : decode cX7_readLine 25 = .ok (.ifCond .eq 16, 3) := dk_153 0 16 (dk_at dksX7_readLine_1 3 rfl rfl)
theorem dX7_readLine_28 : decode cX7_readLine 28 = .ok (.aload_n 0, 1) := dk_42 (dk_at dksX7_readLine_1 6 rfl rfl)
theorem dX7_readLine_29 : decode cX7_readLine 29 = .ok (.getfield 115, 3) := dk_180 0 115 (dk_at dksX7_readLine_1 7 rfl rfl)
theorem dX7_readLine_32 : decode cX7_readLine 32 = .ok (.iconst 3, 1) := dk_6 (dk_at dksX7_readLine_1 10 rfl rfl)
theorem dX7_readLine_33 : decode cX7_readLine 33 = .ok (.if_icmp .eq 8, 3) := dk_159 0 8 (dk_at dksX7_readLine_1 11 rfl rfl)
theorem dX7_readLine_36 : decode cX7_readLine 36 = .ok (.aload_n 0, 1) := dk_42 (dk_at dksX7_readLine_1 14 rfl rfl)
theorem dX7_readLine_37 : decode cX7_readLine 37 = .ok (.iconst 1, 1) := dk_4 (dk_at dksX7_readLine_1 15 rfl rfl)
theorem dX7_readLine_38 : decode cX7_readLine 38 = .ok (.invokevirtual 161, 3) := dk_182 0 161 (dk_at dksX7_readLine_1 16 rfl rfl)
theorem dX7_readLine_41 : decode cX7_readLine 41 = .ok (.aload_n 0, 1) := dk_42 (dk_at dksX7_readLine_1 19 rfl rfl)
theorem dX7_readLine_42 : decode cX7_readLine 42 = .ok (.invokevirtual 139, 3) := dk_182 0 139 (dk_at dksX7_readLine_1 20 rfl rfl)
theorem dX7_readLine_45 : decode cX7_readLine 45 = .ok (.ifCond .eq 7, 3) := dk_153 0 7 (dk_at dksX7_readLine_2 0 rfl rfl)
theorem dX7_readLine_48 : decode cX7_readLine 48 = .ok (.aload_n 0, 1) := dk_42 (dk_at dksX7_readLine_2 3 rfl rfl)
theorem dX7_readLine_49 : decode cX7_readLine 49 = .ok (.invokevirtual 155, 3) := dk_182 0 155 (dk_at dksX7_readLine_2 4 rfl rfl)
theorem dX7_readLine_52 : decode cX7_readLine 52 = .ok (.aload_n 0, 1) := dk_42 (dk_at dksX7_readLine_2 7 rfl rfl)
theorem dX7_readLine_53 : decode cX7_readLine 53 = .ok (.getfield 31, 3) := dk_180 0 31 (dk_at dksX7_readLine_2 8 rfl rfl)
theorem dX7_readLine_56 : decode cX7_readLine 56 = .ok (.bipush 7, 2) := dk_16 7 (dk_at dksX7_readLine_2 11 rfl rfl)
theorem dX7_readLine_58 : decode cX7_readLine 58 = .ok (.dup2, 1) := dk_92 (dk_at dksX7_readLine_2 13 rfl rfl)
theorem dX7_readLine_59 : decode cX7_readLine 59 = .ok (.iaload, 1) := dk_46 (dk_at dksX7_readLine_2 14 rfl rfl)
theorem dX7_readLine_60 : decode cX7_readLine 60 = .ok (.iconst 1, 1) := dk_4 (dk_at dksX7_readLine_2 15 rfl rfl)
theorem dX7_readLine_61 : decode cX7_readLine 61 = .ok (.iadd, 1) := dk_96 (dk_at dksX7_readLine_2 16 rfl rfl)
theorem dX7_readLine_62 : decode cX7_readLine 62 = .ok (.iastore, 1) := dk_79 (dk_at dksX7_readLine_2 17 rfl rfl)
theorem dX7_readLine_63 : decode cX7_readLine 63 = .ok (.return_, 1) := dk_177 (dk_at dksX7_readLine_2 18 rfl rfl)
abbrev cX7_readFirst : ByteArray := prog_22_method_36_code
def yX7_readFirst : MethodName := ⟨RX7, "readFirst", "()V"⟩
def dkwX7_readFirst_2 : List UInt8 := [79, 177]
abbrev dktX7_readFirst_2 : List UInt8 := dkwX7_readFirst_2 ++ []
def dkwX7_readFirst_1 : List UInt8 := [4, 42, 18, 180, 3, 6, 182, 0, 176, 79, 42, 180, 0, 31, 5, 42, 18, 182, 3, 16, 10, 182, 0, 176]
abbrev dktX7_readFirst_1 : List UInt8 := dkwX7_readFirst_1 ++ dktX7_readFirst_2
def dkwX7_readFirst_0 : List UInt8 := [42, 18, 172, 182, 0, 165, 42, 180, 0, 31, 3, 42, 18, 174, 4, 6, 182, 0, 176, 79, 42, 180, 0, 31]
abbrev dktX7_readFirst_0 : List UInt8 := dkwX7_readFirst_0 ++ dktX7_readFirst_1
theorem dksX7_readFirst_0 : cX7_readFirst.data.toList.drop 0 = dktX7_readFirst_0 := by decide +kernel
theorem dksX7_readFirst_1 : cX7_readFirst.data.toList.drop 24 = dktX7_readFirst_1 := dk_seg dksX7_readFirst_0 24 rfl rfl
theorem dksX7_readFirst_2 : cX7_readFirst.data.toList.drop 48 = dktX7_readFirst_2 := dk_seg dksX7_readFirst_1 24 rfl rfl
theorem dX7_readFirst_0 : decode cX7_readFirst 0 = .ok (.aload_n 0, 1) := dk_42 (dk_at dksX7_readFirst_0 0 rfl rfl)
theorem dX7_readFirst_1 : decode cX7_readFirst 1 = .ok (.ldc 172, 2) := dk_18 172 (dk_at dksX7_readFirst_0 1 rfl rfl)
theorem dX7_readFirst_3 : decode cX7_readFirst 3 = .ok (.invokevirtual 165, 3) := dk_182 0 165 (dk_at dksX7_readFirst_0 3 rfl rfl)
theorem dX7_readFirst_6 : decode cX7_readFirst 6 = .ok (.aload_n 0, 1) := dk_42 (dk_at dksX7_readFirst_0 6 rfl rfl)
theorem dX7_readFirst_7 : decode cX7_readFirst 7 = .ok (.getfield 31, 3) := dk_180 0 31 (dk_at dksX7_readFirst_0 7 rfl rfl)
theorem dX7_readFirst_10 : decode cX7_readFirst 10 = .ok (.iconst 0, 1) := dk_3 (dk_at dksX7_readFirst_0 10 rfl rfl)
theorem dX7_readFirst_11 : decode cX7_readFirst 11 = .ok (.aload_n 0, 1) := dk_42 (dk_at dksX7_readFirst_0 11 rfl rfl)
theorem dX7_readFirst_12 : decode cX7_readFirst 12 = .ok (.ldc 174, 2) := dk_18 174 (dk_at dksX7_readFirst_0 12 rfl rfl)
theorem dX7_readFirst_14 : decode cX7_readFirst 14 = .ok (.iconst 1, 1) := dk_4 (dk_at dksX7_readFirst_0 14 rfl rfl)
theorem dX7_readFirst_15 : decode cX7_readFirst 15 = .ok (.iconst 3, 1) := dk_6 (dk_at dksX7_readFirst_0 15 rfl rfl)
theorem dX7_readFirst_16 : decode cX7_readFirst 16 = .ok (.invokevirtual 176, 3) := dk_182 0 176 (dk_at dksX7_readFirst_0 16 rfl rfl)
theorem dX7_readFirst_19 : decode cX7_readFirst 19 = .ok (.iastore, 1) := dk_79 (dk_at dksX7_readFirst_0 19 rfl rfl)
theorem dX7_readFirst_20 : decode cX7_readFirst 20 = .ok (.aload_n 0, 1) := dk_42 (dk_at dksX7_readFirst_0 20 rfl rfl)
theorem dX7_readFirst_21 : decode cX7_readFirst 21 = .ok (.getfield 31, 3) := dk_180 0 31 (dk_at dksX7_readFirst_0 21 rfl rfl)
theorem dX7_readFirst_24 : decode cX7_readFirst 24 = .ok (.iconst 1, 1) := dk_4 (dk_at dksX7_readFirst_1 0 rfl rfl)
theorem dX7_readFirst_25 : decode cX7_readFirst 25 = .ok (.aload_n 0, 1) := dk_42 (dk_at dksX7_readFirst_1 1 rfl rfl)
theorem dX7_readFirst_26 : decode cX7_readFirst 26 = .ok (.ldc 180, 2) := dk_18 180 (dk_at dksX7_readFirst_1 2 rfl rfl)
theorem dX7_readFirst_28 : decode cX7_readFirst 28 = .ok (.iconst 0, 1) := dk_3 (dk_at dksX7_readFirst_1 4 rfl rfl)
theorem dX7_readFirst_29 : decode cX7_readFirst 29 = .ok (.iconst 3, 1) := dk_6 (dk_at dksX7_readFirst_1 5 rfl rfl)
theorem dX7_readFirst_30 : decode cX7_readFirst 30 = .ok (.invokevirtual 176, 3) := dk_182 0 176 (dk_at dksX7_readFirst_1 6 rfl rfl)
theorem dX7_readFirst_33 : decode cX7_readFirst 33 = .ok (.iastore, 1) := dk_79 (dk_at dksX7_readFirst_1 9 rfl rfl)
theorem dX7_readFirst_34 : decode cX7_readFirst 34 = .ok (.aload_n 0, 1) := dk_42 (dk_at dksX7_readFirst_1 10 rfl rfl)
theorem dX7_readFirst_35 : decode cX7_readFirst 35 = .ok (.getfield 31, 3) := dk_180 0 31 (dk_at dksX7_readFirst_1 11 rfl rfl)
theorem dX7_readFirst_38 : decode cX7_readFirst 38 = .ok (.iconst 2, 1) := dk_5 (dk_at dksX7_readFirst_1 14 rfl rfl)
theorem dX7_readFirst_39 : decode cX7_readFirst 39 = .ok (.aload_n 0, 1) := dk_42 (dk_at dksX7_readFirst_1 15 rfl rfl)
theorem dX7_readFirst_40 : decode cX7_readFirst 40 = .ok (.ldc 182, 2) := dk_18 182 (dk_at dksX7_readFirst_1 16 rfl rfl)
theorem dX7_readFirst_42 : decode cX7_readFirst 42 = .ok (.iconst 0, 1) := dk_3 (dk_at dksX7_readFirst_1 18 rfl rfl)
theorem dX7_readFirst_43 : decode cX7_readFirst 43 = .ok (.bipush 10, 2) := dk_16 10 (dk_at dksX7_readFirst_1 19 rfl rfl)
theorem dX7_readFirst_45 : decode cX7_readFirst 45 = .ok (.invokevirtual 176, 3) := dk_182 0 176 (dk_at dksX7_readFirst_1 21 rfl rfl)
theorem dX7_readFirst_48 : decode cX7_readFirst 48 = .ok (.iastore, 1) := dk_79 (dk_at dksX7_readFirst_2 0 rfl rfl)
theorem dX7_readFirst_49 : decode cX7_readFirst 49 = .ok (.return_, 1) := dk_177 (dk_at dksX7_readFirst_2 1 rfl rfl)
abbrev cX7_expects : ByteArray := prog_22_method_32_code
def yX7_expects : MethodName := ⟨RX7, "expects", "(Ljava/lang/String;)V"⟩
def dkwX7_expects_0 : List UInt8 := [42, 43, 182, 0, 158, 154, 0, 8, 42, 4, 182, 0, 161, 177]
abbrev dktX7_expects_0 : List UInt8 := dkwX7_expects_0 ++ []
theorem dksX7_expects_0 : cX7_expects.data.toList.drop 0 = dktX7_expects_0 := by decide +kernel
theorem dX7_expects_0 : decode cX7_expects 0 = .ok (.aload_n 0, 1) := dk_42 (dk_at dksX7_expects_0 0 rfl rfl)
theorem dX7_expects_1 : decode cX7_expects 1 = .ok (.aload_n 1, 1) := dk_43 (dk_at dksX7_expects_0 1 rfl rfl)
theorem dX7_expects_2 : decode cX7_expects 2 = .ok (.invokevirtual 158, 3) := dk_182 0 158 (dk_at dksX7_expects_0 2 rfl rfl)
theorem dX7_expects_5 : decode cX7_expects 5 = .ok (.ifCond .ne 8, 3) := dk_154 0 8 (dk_at dksX7_expects_0 5 rfl rfl)
theorem dX7_expects_8 : decode cX7_expects 8 = .ok (.aload_n 0, 1) := dk_42 (dk_at dksX7_expects_0 8 rfl rfl)
theorem dX7_expects_9 : decode cX7_expects 9 = .ok (.iconst 1, 1) := dk_4 (dk_at dksX7_expects_0 9 rfl rfl)
theorem dX7_expects_10 : decode cX7_expects 10 = .ok (.invokevirtual 161, 3) := dk_182 0 161 (dk_at dksX7_expects_0 10 rfl rfl)
theorem dX7_expects_13 : decode cX7_expects 13 = .ok (.return_, 1) := dk_177 (dk_at dksX7_expects_0 13 rfl rfl)
abbrev cX7_takes : ByteArray := prog_22_method_31_code
def yX7_takes : MethodName := ⟨RX7, "takes", "(Ljava/lang/String;)Z"⟩
def dkwX7_takes_0 : List UInt8 := [42, 43, 182, 0, 151, 61, 28, 153, 0, 7, 42, 182, 0, 155, 28, 172]
abbrev dktX7_takes_0 : List UInt8 := dkwX7_takes_0 ++ []
theorem dksX7_takes_0 : cX7_takes.data.toList.drop 0 = dktX7_takes_0 := by decide +kernel
theorem dX7_takes_0 : decode cX7_takes 0 = .ok (.aload_n 0, 1) := dk_42 (dk_at dksX7_takes_0 0 rfl rfl)
theorem dX7_takes_1 : decode cX7_takes 1 = .ok (.aload_n 1, 1) := dk_43 (dk_at dksX7_takes_0 1 rfl rfl)
theorem dX7_takes_2 : decode cX7_takes 2 = .ok (.invokevirtual 151, 3) := dk_182 0 151 (dk_at dksX7_takes_0 2 rfl rfl)
theorem dX7_takes_5 : decode cX7_takes 5 = .ok (.istore_n 2, 1) := dk_61 (dk_at dksX7_takes_0 5 rfl rfl)
theorem dX7_takes_6 : decode cX7_takes 6 = .ok (.iload_n 2, 1) := dk_28 (dk_at dksX7_takes_0 6 rfl rfl)
theorem dX7_takes_7 : decode cX7_takes 7 = .ok (.ifCond .eq 7, 3) := dk_153 0 7 (dk_at dksX7_takes_0 7 rfl rfl)
theorem dX7_takes_10 : decode cX7_takes 10 = .ok (.aload_n 0, 1) := dk_42 (dk_at dksX7_takes_0 10 rfl rfl)
theorem dX7_takes_11 : decode cX7_takes 11 = .ok (.invokevirtual 155, 3) := dk_182 0 155 (dk_at dksX7_takes_0 11 rfl rfl)
theorem dX7_takes_14 : decode cX7_takes 14 = .ok (.iload_n 2, 1) := dk_28 (dk_at dksX7_takes_0 14 rfl rfl)
theorem dX7_takes_15 : decode cX7_takes 15 = .ok (.ireturn, 1) := dk_172 (dk_at dksX7_takes_0 15 rfl rfl)
abbrev cX7_is : ByteArray := prog_22_method_30_code
def yX7_is : MethodName := ⟨RX7, "is", "(Ljava/lang/String;)Z"⟩
def dkwX7_is_3 : List UInt8 := [167, 0, 4, 3, 61, 132, 3, 1, 167, 255, 216, 28, 172]
abbrev dktX7_is_3 : List UInt8 := dkwX7_is_3 ++ []
def dkwX7_is_2 : List UInt8 := [153, 0, 34, 42, 180, 0, 20, 42, 180, 0, 112, 29, 96, 51, 43, 29, 182, 0, 147, 160, 0, 7, 4]
abbrev dktX7_is_2 : List UInt8 := dkwX7_is_2 ++ dktX7_is_3
def dkwX7_is_1 : List UInt8 := [43, 182, 0, 142, 160, 0, 7, 4, 167, 0, 4, 3, 61, 3, 62, 29, 43, 182, 0, 142, 162, 0, 38, 28]
abbrev dktX7_is_1 : List UInt8 := dkwX7_is_1 ++ dktX7_is_2
def dkwX7_is_0 : List UInt8 := [42, 182, 0, 139, 153, 0, 31, 42, 180, 0, 115, 4, 160, 0, 23, 42, 180, 0, 105, 42, 180, 0, 112, 100]
abbrev dktX7_is_0 : List UInt8 := dkwX7_is_0 ++ dktX7_is_1
theorem dksX7_is_0 : cX7_is.data.toList.drop 0 = dktX7_is_0 := by decide +kernel
theorem dksX7_is_1 : cX7_is.data.toList.drop 24 = dktX7_is_1 := dk_seg dksX7_is_0 24 rfl rfl
theorem dksX7_is_2 : cX7_is.data.toList.drop 48 = dktX7_is_2 := dk_seg dksX7_is_1 24 rfl rfl
theorem dksX7_is_3 : cX7_is.data.toList.drop 71 = dktX7_is_3 := dk_seg dksX7_is_2 23 rfl rfl
theorem dX7_is_0 : decode cX7_is 0 = .ok (.aload_n 0, 1) := dk_42 (dk_at dksX7_is_0 0 rfl rfl)
theorem dX7_is_1 : decode cX7_is 1 = .ok (.invokevirtual 139, 3) := dk_182 0 139 (dk_at dksX7_is_0 1 rfl rfl)
theorem dX7_is_4 : decode cX7_is 4 = .ok (.ifCond .eq 31, 3) := dk_153 0 31 (dk_at dksX7_is_0 4 rfl rfl)
theorem dX7_is_7 : decode cX7_is 7 = .ok (.aload_n 0, 1) := dk_42 (dk_at dksX7_is_0 7 rfl rfl)
theorem dX7_is_8 : decode cX7_is 8 = .ok (.getfield 115, 3) := dk_180 0 115 (dk_at dksX7_is_0 8 rfl rfl)
theorem dX7_is_11 : decode cX7_is 11 = .ok (.iconst 1, 1) := dk_4 (dk_at dksX7_is_0 11 rfl rfl)
theorem dX7_is_12 : decode cX7_is 12 = .ok (.if_icmp .ne 23, 3) := dk_160 0 23 (dk_at dksX7_is_0 12 rfl rfl)
theorem dX7_is_15 : decode cX7_is 15 = .ok (.aload_n 0, 1) := dk_42 (dk_at dksX7_is_0 15 rfl rfl)
theorem dX7_is_16 : decode cX7_is 16 = .ok (.getfield 105, 3) := dk_180 0 105 (dk_at dksX7_is_0 16 rfl rfl)
theorem dX7_is_19 : decode cX7_is 19 = .ok (.aload_n 0, 1) := dk_42 (dk_at dksX7_is_0 19 rfl rfl)
theorem dX7_is_20 : decode cX7_is 20 = .ok (.getfield 112, 3) := dk_180 0 112 (dk_at dksX7_is_0 20 rfl rfl)
theorem dX7_is_23 : decode cX7_is 23 = .ok (.isub, 1) := dk_100 (dk_at dksX7_is_0 23 rfl rfl)
theorem dX7_is_24 : decode cX7_is 24 = .ok (.aload_n 1, 1) := dk_43 (dk_at dksX7_is_1 0 rfl rfl)
theorem dX7_is_25 : decode cX7_is 25 = .ok (.invokevirtual 142, 3) := dk_182 0 142 (dk_at dksX7_is_1 1 rfl rfl)
theorem dX7_is_28 : decode cX7_is 28 = .ok (.if_icmp .ne 7, 3) := dk_160 0 7 (dk_at dksX7_is_1 4 rfl rfl)
theorem dX7_is_31 : decode cX7_is 31 = .ok (.iconst 1, 1) := dk_4 (dk_at dksX7_is_1 7 rfl rfl)
theorem dX7_is_32 : decode cX7_is 32 = .ok (.goto 4, 3) := dk_167 0 4 (dk_at dksX7_is_1 8 rfl rfl)
theorem dX7_is_35 : decode cX7_is 35 = .ok (.iconst 0, 1) := dk_3 (dk_at dksX7_is_1 11 rfl rfl)
theorem dX7_is_36 : decode cX7_is 36 = .ok (.istore_n 2, 1) := dk_61 (dk_at dksX7_is_1 12 rfl rfl)
theorem dX7_is_37 : decode cX7_is 37 = .ok (.iconst 0, 1) := dk_3 (dk_at dksX7_is_1 13 rfl rfl)
theorem dX7_is_38 : decode cX7_is 38 = .ok (.istore_n 3, 1) := dk_62 (dk_at dksX7_is_1 14 rfl rfl)
theorem dX7_is_39 : decode cX7_is 39 = .ok (.iload_n 3, 1) := dk_29 (dk_at dksX7_is_1 15 rfl rfl)
theorem dX7_is_40 : decode cX7_is 40 = .ok (.aload_n 1, 1) := dk_43 (dk_at dksX7_is_1 16 rfl rfl)
theorem dX7_is_41 : decode cX7_is 41 = .ok (.invokevirtual 142, 3) := dk_182 0 142 (dk_at dksX7_is_1 17 rfl rfl)
theorem dX7_is_44 : decode cX7_is 44 = .ok (.if_icmp .ge 38, 3) := dk_162 0 38 (dk_at dksX7_is_1 20 rfl rfl)
theorem dX7_is_47 : decode cX7_is 47 = .ok (.iload_n 2, 1) := dk_28 (dk_at dksX7_is_1 23 rfl rfl)
theorem dX7_is_48 : decode cX7_is 48 = .ok (.ifCond .eq 34, 3) := dk_153 0 34 (dk_at dksX7_is_2 0 rfl rfl)
theorem dX7_is_51 : decode cX7_is 51 = .ok (.aload_n 0, 1) := dk_42 (dk_at dksX7_is_2 3 rfl rfl)
theorem dX7_is_52 : decode cX7_is 52 = .ok (.getfield 20, 3) := dk_180 0 20 (dk_at dksX7_is_2 4 rfl rfl)
theorem dX7_is_55 : decode cX7_is 55 = .ok (.aload_n 0, 1) := dk_42 (dk_at dksX7_is_2 7 rfl rfl)
theorem dX7_is_56 : decode cX7_is 56 = .ok (.getfield 112, 3) := dk_180 0 112 (dk_at dksX7_is_2 8 rfl rfl)
theorem dX7_is_59 : decode cX7_is 59 = .ok (.iload_n 3, 1) := dk_29 (dk_at dksX7_is_2 11 rfl rfl)
theorem dX7_is_60 : decode cX7_is 60 = .ok (.iadd, 1) := dk_96 (dk_at dksX7_is_2 12 rfl rfl)
theorem dX7_is_61 : decode cX7_is 61 = .ok (.baload, 1) := dk_51 (dk_at dksX7_is_2 13 rfl rfl)
theorem dX7_is_62 : decode cX7_is 62 = .ok (.aload_n 1, 1) := dk_43 (dk_at dksX7_is_2 14 rfl rfl)
theorem dX7_is_63 : decode cX7_is 63 = .ok (.iload_n 3, 1) := dk_29 (dk_at dksX7_is_2 15 rfl rfl)
theorem dX7_is_64 : decode cX7_is 64 = .ok (.invokevirtual 147, 3) := dk_182 0 147 (dk_at dksX7_is_2 16 rfl rfl)
theorem dX7_is_67 : decode cX7_is 67 = .ok (.if_icmp .ne 7, 3) := dk_160 0 7 (dk_at dksX7_is_2 19 rfl rfl)
theorem dX7_is_70 : decode cX7_is 70 = .ok (.iconst 1, 1) := dk_4 (dk_at dksX7_is_2 22 rfl rfl)
theorem dX7_is_71 : decode cX7_is 71 = .ok (.goto 4, 3) := dk_167 0 4 (dk_at dksX7_is_3 0 rfl rfl)
theorem dX7_is_74 : decode cX7_is 74 = .ok (.iconst 0, 1) := dk_3 (dk_at dksX7_is_3 3 rfl rfl)
theorem dX7_is_75 : decode cX7_is 75 = .ok (.istore_n 2, 1) := dk_61 (dk_at dksX7_is_3 4 rfl rfl)
theorem dX7_is_76 : decode cX7_is 76 = .ok (.iinc 3 1, 3) := dk_132 3 1 (dk_at dksX7_is_3 5 rfl rfl)
theorem dX7_is_79 : decode cX7_is 79 = .ok (.goto (-40), 3) := dk_167 255 216 (dk_at dksX7_is_3 8 rfl rfl)
theorem dX7_is_82 : decode cX7_is 82 = .ok (.iload_n 2, 1) := dk_28 (dk_at dksX7_is_3 11 rfl rfl)
theorem dX7_is_83 : decode cX7_is 83 = .ok (.ireturn, 1) := dk_172 (dk_at dksX7_is_3 12 rfl rfl)
abbrev cX7_errs : ByteArray := prog_22_method_29_code
def yX7_errs : MethodName := ⟨RX7, "errs", "(I)V"⟩
def dkwX7_errs_0 : List UInt8 := [42, 182, 0, 139, 154, 0, 4, 177, 42, 27, 181, 0, 136, 42, 42, 180, 0, 112, 181, 0, 27, 177]
abbrev dktX7_errs_0 : List UInt8 := dkwX7_errs_0 ++ []
theorem dksX7_errs_0 : cX7_errs.data.toList.drop 0 = dktX7_errs_0 := by decide +kernel
theorem dX7_errs_0 : decode cX7_errs 0 = .ok (.aload_n 0, 1) := dk_42 (dk_at dksX7_errs_0 0 rfl rfl)
theorem dX7_errs_1 : decode cX7_errs 1 = .ok (.invokevirtual 139, 3) := dk_182 0 139 (dk_at dksX7_errs_0 1 rfl rfl)
theorem dX7_errs_4 : decode cX7_errs 4 = .ok (.ifCond .ne 4, 3) := dk_154 0 4 (dk_at dksX7_errs_0 4 rfl rfl)
theorem dX7_errs_7 : decode cX7_errs 7 = .ok (.return_, 1) := dk_177 (dk_at dksX7_errs_0 7 rfl rfl)
theorem dX7_errs_8 : decode cX7_errs 8 = .ok (.aload_n 0, 1) := dk_42 (dk_at dksX7_errs_0 8 rfl rfl)
theorem dX7_errs_9 : decode cX7_errs 9 = .ok (.iload_n 1, 1) := dk_27 (dk_at dksX7_errs_0 9 rfl rfl)
theorem dX7_errs_10 : decode cX7_errs 10 = .ok (.putfield 136, 3) := dk_181 0 136 (dk_at dksX7_errs_0 10 rfl rfl)
theorem dX7_errs_13 : decode cX7_errs 13 = .ok (.aload_n 0, 1) := dk_42 (dk_at dksX7_errs_0 13 rfl rfl)
theorem dX7_errs_14 : decode cX7_errs 14 = .ok (.aload_n 0, 1) := dk_42 (dk_at dksX7_errs_0 14 rfl rfl)
theorem dX7_errs_15 : decode cX7_errs 15 = .ok (.getfield 112, 3) := dk_180 0 112 (dk_at dksX7_errs_0 15 rfl rfl)
theorem dX7_errs_18 : decode cX7_errs 18 = .ok (.putfield 27, 3) := dk_181 0 27 (dk_at dksX7_errs_0 18 rfl rfl)
theorem dX7_errs_21 : decode cX7_errs 21 = .ok (.return_, 1) := dk_177 (dk_at dksX7_errs_0 21 rfl rfl)
abbrev cX7_toldBy : ByteArray := prog_22_method_34_code
def yX7_toldBy : MethodName := ⟨RX7, "toldBy", "(Ljava/lang/String;II)I"⟩
def dkwX7_toldBy_0 : List UInt8 := [42, 43, 182, 0, 165, 42, 28, 29, 182, 0, 169, 172]
abbrev dktX7_toldBy_0 : List UInt8 := dkwX7_toldBy_0 ++ []
theorem dksX7_toldBy_0 : cX7_toldBy.data.toList.drop 0 = dktX7_toldBy_0 := by decide +kernel
theorem dX7_toldBy_0 : decode cX7_toldBy 0 = .ok (.aload_n 0, 1) := dk_42 (dk_at dksX7_toldBy_0 0 rfl rfl)
theorem dX7_toldBy_1 : decode cX7_toldBy 1 = .ok (.aload_n 1, 1) := dk_43 (dk_at dksX7_toldBy_0 1 rfl rfl)
theorem dX7_toldBy_2 : decode cX7_toldBy 2 = .ok (.invokevirtual 165, 3) := dk_182 0 165 (dk_at dksX7_toldBy_0 2 rfl rfl)
theorem dX7_toldBy_5 : decode cX7_toldBy 5 = .ok (.aload_n 0, 1) := dk_42 (dk_at dksX7_toldBy_0 5 rfl rfl)
theorem dX7_toldBy_6 : decode cX7_toldBy 6 = .ok (.iload_n 2, 1) := dk_28 (dk_at dksX7_toldBy_0 6 rfl rfl)
theorem dX7_toldBy_7 : decode cX7_toldBy 7 = .ok (.iload_n 3, 1) := dk_29 (dk_at dksX7_toldBy_0 7 rfl rfl)
theorem dX7_toldBy_8 : decode cX7_toldBy 8 = .ok (.invokevirtual 169, 3) := dk_182 0 169 (dk_at dksX7_toldBy_0 8 rfl rfl)
theorem dX7_toldBy_11 : decode cX7_toldBy 11 = .ok (.ireturn, 1) := dk_172 (dk_at dksX7_toldBy_0 11 rfl rfl)
abbrev cX7_number : ByteArray := prog_22_method_33_code
def yX7_number : MethodName := ⟨RX7, "number", "(II)I"⟩
def dkwX7_number_2 : List UInt8 := [182, 0, 139, 154, 0, 5, 3, 172, 42, 180, 0, 126, 62, 42, 182, 0, 155, 29, 172]
abbrev dktX7_number_2 : List UInt8 := dkwX7_number_2 ++ []
def dkwX7_number_1 : List UInt8 := [153, 0, 23, 42, 180, 0, 126, 133, 27, 133, 28, 133, 184, 0, 76, 154, 0, 8, 42, 5, 182, 0, 161, 42]
abbrev dktX7_number_1 : List UInt8 := dkwX7_number_1 ++ dktX7_number_2
def dkwX7_number_0 : List UInt8 := [42, 182, 0, 139, 153, 0, 16, 42, 180, 0, 115, 5, 159, 0, 8, 42, 4, 182, 0, 161, 42, 182, 0, 139]
abbrev dktX7_number_0 : List UInt8 := dkwX7_number_0 ++ dktX7_number_1
theorem dksX7_number_0 : cX7_number.data.toList.drop 0 = dktX7_number_0 := by decide +kernel
theorem dksX7_number_1 : cX7_number.data.toList.drop 24 = dktX7_number_1 := dk_seg dksX7_number_0 24 rfl rfl
theorem dksX7_number_2 : cX7_number.data.toList.drop 48 = dktX7_number_2 := dk_seg dksX7_number_1 24 rfl rfl
theorem dX7_number_0 : decode cX7_number 0 = .ok (.aload_n 0, 1) := dk_42 (dk_at dksX7_number_0 0 rfl rfl)
theorem dX7_number_1 : decode cX7_number 1 = .ok (.invokevirtual 139, 3) := dk_182 0 139 (dk_at dksX7_number_0 1 rfl rfl)
theorem dX7_number_4 : decode cX7_number 4 = .ok (.ifCond .eq 16, 3) := dk_153 0 16 (dk_at dksX7_number_0 4 rfl rfl)
theorem dX7_number_7 : decode cX7_number 7 = .ok (.aload_n 0, 1) := dk_42 (dk_at dksX7_number_0 7 rfl rfl)
theorem dX7_number_8 : decode cX7_number 8 = .ok (.getfield 115, 3) := dk_180 0 115 (dk_at dksX7_number_0 8 rfl rfl)
theorem dX7_number_11 : decode cX7_number 11 = .ok (.iconst 2, 1) := dk_5 (dk_at dksX7_number_0 11 rfl rfl)
theorem dX7_number_12 : decode cX7_number 12 = .ok (.if_icmp .eq 8, 3) := dk_159 0 8 (dk_at dksX7_number_0 12 rfl rfl)
theorem dX7_number_15 : decode cX7_number 15 = .ok (.aload_n 0, 1) := dk_42 (dk_at dksX7_number_0 15 rfl rfl)
theorem dX7_number_16 : decode cX7_number 16 = .ok (.iconst 1, 1) := dk_4 (dk_at dksX7_number_0 16 rfl rfl)
theorem dX7_number_17 : decode cX7_number 17 = .ok (.invokevirtual 161, 3) := dk_182 0 161 (dk_at dksX7_number_0 17 rfl rfl)
theorem dX7_number_20 : decode cX7_number 20 = .ok (.aload_n 0, 1) := dk_42 (dk_at dksX7_number_0 20 rfl rfl)
theorem dX7_number_21 : decode cX7_number 21 = .ok (.invokevirtual 139, 3) := dk_182 0 139 (dk_at dksX7_number_0 21 rfl rfl)
theorem dX7_number_24 : decode cX7_number 24 = .ok (.ifCond .eq 23, 3) := dk_153 0 23 (dk_at dksX7_number_1 0 rfl rfl)
theorem dX7_number_27 : decode cX7_number 27 = .ok (.aload_n 0, 1) := dk_42 (dk_at dksX7_number_1 3 rfl rfl)
theorem dX7_number_28 : decode cX7_number 28 = .ok (.getfield 126, 3) := dk_180 0 126 (dk_at dksX7_number_1 4 rfl rfl)
theorem dX7_number_31 : decode cX7_number 31 = .ok (.i2l, 1) := dk_133 (dk_at dksX7_number_1 7 rfl rfl)
theorem dX7_number_32 : decode cX7_number 32 = .ok (.iload_n 1, 1) := dk_27 (dk_at dksX7_number_1 8 rfl rfl)
theorem dX7_number_33 : decode cX7_number 33 = .ok (.i2l, 1) := dk_133 (dk_at dksX7_number_1 9 rfl rfl)
theorem dX7_number_34 : decode cX7_number 34 = .ok (.iload_n 2, 1) := dk_28 (dk_at dksX7_number_1 10 rfl rfl)
theorem dX7_number_35 : decode cX7_number 35 = .ok (.i2l, 1) := dk_133 (dk_at dksX7_number_1 11 rfl rfl)
theorem dX7_number_36 : decode cX7_number 36 = .ok (.invokestatic 76, 3) := dk_184 0 76 (dk_at dksX7_number_1 12 rfl rfl)
theorem dX7_number_39 : decode cX7_number 39 = .ok (.ifCond .ne 8, 3) := dk_154 0 8 (dk_at dksX7_number_1 15 rfl rfl)
theorem dX7_number_42 : decode cX7_number 42 = .ok (.aload_n 0, 1) := dk_42 (dk_at dksX7_number_1 18 rfl rfl)
theorem dX7_number_43 : decode cX7_number 43 = .ok (.iconst 2, 1) := dk_5 (dk_at dksX7_number_1 19 rfl rfl)
theorem dX7_number_44 : decode cX7_number 44 = .ok (.invokevirtual 161, 3) := dk_182 0 161 (dk_at dksX7_number_1 20 rfl rfl)
theorem dX7_number_47 : decode cX7_number 47 = .ok (.aload_n 0, 1) := dk_42 (dk_at dksX7_number_1 23 rfl rfl)
theorem dX7_number_48 : decode cX7_number 48 = .ok (.invokevirtual 139, 3) := dk_182 0 139 (dk_at dksX7_number_2 0 rfl rfl)
theorem dX7_number_51 : decode cX7_number 51 = .ok (.ifCond .ne 5, 3) := dk_154 0 5 (dk_at dksX7_number_2 3 rfl rfl)
theorem dX7_number_54 : decode cX7_number 54 = .ok (.iconst 0, 1) := dk_3 (dk_at dksX7_number_2 6 rfl rfl)
theorem dX7_number_55 : decode cX7_number 55 = .ok (.ireturn, 1) := dk_172 (dk_at dksX7_number_2 7 rfl rfl)
theorem dX7_number_56 : decode cX7_number 56 = .ok (.aload_n 0, 1) := dk_42 (dk_at dksX7_number_2 8 rfl rfl)
theorem dX7_number_57 : decode cX7_number 57 = .ok (.getfield 126, 3) := dk_180 0 126 (dk_at dksX7_number_2 9 rfl rfl)
theorem dX7_number_60 : decode cX7_number 60 = .ok (.istore_n 3, 1) := dk_62 (dk_at dksX7_number_2 12 rfl rfl)
theorem dX7_number_61 : decode cX7_number 61 = .ok (.aload_n 0, 1) := dk_42 (dk_at dksX7_number_2 13 rfl rfl)
theorem dX7_number_62 : decode cX7_number 62 = .ok (.invokevirtual 155, 3) := dk_182 0 155 (dk_at dksX7_number_2 14 rfl rfl)
theorem dX7_number_65 : decode cX7_number 65 = .ok (.iload_n 3, 1) := dk_29 (dk_at dksX7_number_2 17 rfl rfl)
theorem dX7_number_66 : decode cX7_number 66 = .ok (.ireturn, 1) := dk_172 (dk_at dksX7_number_2 18 rfl rfl)
abbrev cX7_readNext : ByteArray := prog_22_method_44_code
def yX7_readNext : MethodName := ⟨RX7, "readNext", "()V"⟩
def dkwX7_readNext_5 : List UInt8 := [18, 224, 182, 0, 158, 153, 0, 10, 42, 182, 0, 237, 167, 0, 11, 42, 182, 0, 155, 42, 182, 0, 240, 177]
abbrev dktX7_readNext_5 : List UInt8 := dkwX7_readNext_5 ++ []
def dkwX7_readNext_4 : List UInt8 := [18, 235, 18, 220, 18, 220, 182, 0, 206, 79, 42, 180, 0, 31, 6, 92, 46, 4, 96, 79, 167, 0, 27, 42]
abbrev dktX7_readNext_4 : List UInt8 := dkwX7_readNext_4 ++ dktX7_readNext_5
def dkwX7_readNext_3 : List UInt8 := [153, 0, 46, 42, 180, 0, 31, 16, 8, 42, 180, 0, 31, 6, 46, 96, 42, 18, 231, 18, 232, 18, 233]
abbrev dktX7_readNext_3 : List UInt8 := dkwX7_readNext_3 ++ dktX7_readNext_4
def dkwX7_readNext_2 : List UInt8 := [153, 0, 8, 42, 6, 182, 0, 161, 42, 182, 0, 139, 154, 0, 4, 177, 42, 18, 222, 182, 0, 158]
abbrev dktX7_readNext_2 : List UInt8 := dkwX7_readNext_2 ++ dktX7_readNext_3
def dkwX7_readNext_1 : List UInt8 := [153, 0, 7, 4, 167, 0, 4, 3, 60, 27, 154, 0, 8, 42, 4, 182, 0, 161, 42, 182, 0, 228]
abbrev dktX7_readNext_1 : List UInt8 := dkwX7_readNext_1 ++ dktX7_readNext_2
def dkwX7_readNext_0 : List UInt8 := [42, 18, 222, 182, 0, 151, 154, 0, 21, 42, 18, 224, 182, 0, 151, 154, 0, 12, 42, 18, 226, 182, 0, 151]
abbrev dktX7_readNext_0 : List UInt8 := dkwX7_readNext_0 ++ dktX7_readNext_1
theorem dksX7_readNext_0 : cX7_readNext.data.toList.drop 0 = dktX7_readNext_0 := by decide +kernel
theorem dksX7_readNext_1 : cX7_readNext.data.toList.drop 24 = dktX7_readNext_1 := dk_seg dksX7_readNext_0 24 rfl rfl
theorem dksX7_readNext_2 : cX7_readNext.data.toList.drop 46 = dktX7_readNext_2 := dk_seg dksX7_readNext_1 22 rfl rfl
theorem dksX7_readNext_3 : cX7_readNext.data.toList.drop 68 = dktX7_readNext_3 := dk_seg dksX7_readNext_2 22 rfl rfl
theorem dksX7_readNext_4 : cX7_readNext.data.toList.drop 91 = dktX7_readNext_4 := dk_seg dksX7_readNext_3 23 rfl rfl
theorem dksX7_readNext_5 : cX7_readNext.data.toList.drop 115 = dktX7_readNext_5 := dk_seg dksX7_readNext_4 24 rfl rfl
theorem dX7_readNext_0 : decode cX7_readNext 0 = .ok (.aload_n 0, 1) := dk_42 (dk_at dksX7_readNext_0 0 rfl rfl)
theorem dX7_readNext_1 : decode cX7_readNext 1 = .ok (.ldc 222, 2) := dk_18 222 (dk_at dksX7_readNext_0 1 rfl rfl)
theorem dX7_readNext_3 : decode cX7_readNext 3 = .ok (.invokevirtual 151, 3) := dk_182 0 151 (dk_at dksX7_readNext_0 3 rfl rfl)
theorem dX7_readNext_6 : decode cX7_readNext 6 = .ok (.ifCond .ne 21, 3) := dk_154 0 21 (dk_at dksX7_readNext_0 6 rfl rfl)
theorem dX7_readNext_9 : decode cX7_readNext 9 = .ok (.aload_n 0, 1) := dk_42 (dk_at dksX7_readNext_0 9 rfl rfl)
theorem dX7_readNext_10 : decode cX7_readNext 10 = .ok (.ldc 224, 2) := dk_18 224 (dk_at dksX7_readNext_0 10 rfl rfl)
theorem dX7_readNext_12 : decode cX7_readNext 12 = .ok (.invokevirtual 151, 3) := dk_182 0 151 (dk_at dksX7_readNext_0 12 rfl rfl)
theorem dX7_readNext_15 : decode cX7_readNext 15 = .ok (.ifCond .ne 12, 3) := dk_154 0 12 (dk_at dksX7_readNext_0 15 rfl rfl)
theorem dX7_readNext_18 : decode cX7_readNext 18 = .ok (.aload_n 0, 1) := dk_42 (dk_at dksX7_readNext_0 18 rfl rfl)
theorem dX7_readNext_19 : decode cX7_readNext 19 = .ok (.ldc 226, 2) := dk_18 226 (dk_at dksX7_readNext_0 19 rfl rfl)
theorem dX7_readNext_21 : decode cX7_readNext 21 = .ok (.invokevirtual 151, 3) := dk_182 0 151 (dk_at dksX7_readNext_0 21 rfl rfl)
theorem dX7_readNext_24 : decode cX7_readNext 24 = .ok (.ifCond .eq 7, 3) := dk_153 0 7 (dk_at dksX7_readNext_1 0 rfl rfl)
theorem dX7_readNext_27 : decode cX7_readNext 27 = .ok (.iconst 1, 1) := dk_4 (dk_at dksX7_readNext_1 3 rfl rfl)
theorem dX7_readNext_28 : decode cX7_readNext 28 = .ok (.goto 4, 3) := dk_167 0 4 (dk_at dksX7_readNext_1 4 rfl rfl)
theorem dX7_readNext_31 : decode cX7_readNext 31 = .ok (.iconst 0, 1) := dk_3 (dk_at dksX7_readNext_1 7 rfl rfl)
theorem dX7_readNext_32 : decode cX7_readNext 32 = .ok (.istore_n 1, 1) := dk_60 (dk_at dksX7_readNext_1 8 rfl rfl)
theorem dX7_readNext_33 : decode cX7_readNext 33 = .ok (.iload_n 1, 1) := dk_27 (dk_at dksX7_readNext_1 9 rfl rfl)
theorem dX7_readNext_34 : decode cX7_readNext 34 = .ok (.ifCond .ne 8, 3) := dk_154 0 8 (dk_at dksX7_readNext_1 10 rfl rfl)
theorem dX7_readNext_37 : decode cX7_readNext 37 = .ok (.aload_n 0, 1) := dk_42 (dk_at dksX7_readNext_1 13 rfl rfl)
theorem dX7_readNext_38 : decode cX7_readNext 38 = .ok (.iconst 1, 1) := dk_4 (dk_at dksX7_readNext_1 14 rfl rfl)
theorem dX7_readNext_39 : decode cX7_readNext 39 = .ok (.invokevirtual 161, 3) := dk_182 0 161 (dk_at dksX7_readNext_1 15 rfl rfl)
theorem dX7_readNext_42 : decode cX7_readNext 42 = .ok (.aload_n 0, 1) := dk_42 (dk_at dksX7_readNext_1 18 rfl rfl)
theorem dX7_readNext_43 : decode cX7_readNext 43 = .ok (.invokevirtual 228, 3) := dk_182 0 228 (dk_at dksX7_readNext_1 19 rfl rfl)
theorem dX7_readNext_46 : decode cX7_readNext 46 = .ok (.ifCond .eq 8, 3) := dk_153 0 8 (dk_at dksX7_readNext_2 0 rfl rfl)
theorem dX7_readNext_49 : decode cX7_readNext 49 = .ok (.aload_n 0, 1) := dk_42 (dk_at dksX7_readNext_2 3 rfl rfl)
theorem dX7_readNext_50 : decode cX7_readNext 50 = .ok (.iconst 3, 1) := dk_6 (dk_at dksX7_readNext_2 4 rfl rfl)
theorem dX7_readNext_51 : decode cX7_readNext 51 = .ok (.invokevirtual 161, 3) := dk_182 0 161 (dk_at dksX7_readNext_2 5 rfl rfl)
theorem dX7_readNext_54 : decode cX7_readNext 54 = .ok (.aload_n 0, 1) := dk_42 (dk_at dksX7_readNext_2 8 rfl rfl)
theorem dX7_readNext_55 : decode cX7_readNext 55 = .ok (.invokevirtual 139, 3) := dk_182 0 139 (dk_at dksX7_readNext_2 9 rfl rfl)
theorem dX7_readNext_58 : decode cX7_readNext 58 = .ok (.ifCond .ne 4, 3) := dk_154 0 4 (dk_at dksX7_readNext_2 12 rfl rfl)
theorem dX7_readNext_61 : decode cX7_readNext 61 = .ok (.return_, 1) := dk_177 (dk_at dksX7_readNext_2 15 rfl rfl)
theorem dX7_readNext_62 : decode cX7_readNext 62 = .ok (.aload_n 0, 1) := dk_42 (dk_at dksX7_readNext_2 16 rfl rfl)
theorem dX7_readNext_63 : decode cX7_readNext 63 = .ok (.ldc 222, 2) := dk_18 222 (dk_at dksX7_readNext_2 17 rfl rfl)
theorem dX7_readNext_65 : decode cX7_readNext 65 = .ok (.invokevirtual 158, 3) := dk_182 0 158 (dk_at dksX7_readNext_2 19 rfl rfl)
theorem dX7_readNext_68 : decode cX7_readNext 68 = .ok (.ifCond .eq 46, 3) := dk_153 0 46 (dk_at dksX7_readNext_3 0 rfl rfl)
theorem dX7_readNext_71 : decode cX7_readNext 71 = .ok (.aload_n 0, 1) := dk_42 (dk_at dksX7_readNext_3 3 rfl rfl)
theorem dX7_readNext_72 : decode cX7_readNext 72 = .ok (.getfield 31, 3) := dk_180 0 31 (dk_at dksX7_readNext_3 4 rfl rfl)
theorem dX7_readNext_75 : decode cX7_readNext 75 = .ok (.bipush 8, 2) := dk_16 8 (dk_at dksX7_readNext_3 7 rfl rfl)
theorem dX7_readNext_77 : decode cX7_readNext 77 = .ok (.aload_n 0, 1) := dk_42 (dk_at dksX7_readNext_3 9 rfl rfl)
theorem dX7_readNext_78 : decode cX7_readNext 78 = .ok (.getfield 31, 3) := dk_180 0 31 (dk_at dksX7_readNext_3 10 rfl rfl)
theorem dX7_readNext_81 : decode cX7_readNext 81 = .ok (.iconst 3, 1) := dk_6 (dk_at dksX7_readNext_3 13 rfl rfl)
theorem dX7_readNext_82 : decode cX7_readNext 82 = .ok (.iaload, 1) := dk_46 (dk_at dksX7_readNext_3 14 rfl rfl)
theorem dX7_readNext_83 : decode cX7_readNext 83 = .ok (.iadd, 1) := dk_96 (dk_at dksX7_readNext_3 15 rfl rfl)
theorem dX7_readNext_84 : decode cX7_readNext 84 = .ok (.aload_n 0, 1) := dk_42 (dk_at dksX7_readNext_3 16 rfl rfl)
theorem dX7_readNext_85 : decode cX7_readNext 85 = .ok (.ldc 231, 2) := dk_18 231 (dk_at dksX7_readNext_3 17 rfl rfl)
theorem dX7_readNext_87 : decode cX7_readNext 87 = .ok (.ldc 232, 2) := dk_18 232 (dk_at dksX7_readNext_3 19 rfl rfl)
theorem dX7_readNext_89 : decode cX7_readNext 89 = .ok (.ldc 233, 2) := dk_18 233 (dk_at dksX7_readNext_3 21 rfl rfl)
theorem dX7_readNext_91 : decode cX7_readNext 91 = .ok (.ldc 235, 2) := dk_18 235 (dk_at dksX7_readNext_4 0 rfl rfl)
theorem dX7_readNext_93 : decode cX7_readNext 93 = .ok (.ldc 220, 2) := dk_18 220 (dk_at dksX7_readNext_4 2 rfl rfl)
theorem dX7_readNext_95 : decode cX7_readNext 95 = .ok (.ldc 220, 2) := dk_18 220 (dk_at dksX7_readNext_4 4 rfl rfl)
theorem dX7_readNext_97 : decode cX7_readNext 97 = .ok (.invokevirtual 206, 3) := dk_182 0 206 (dk_at dksX7_readNext_4 6 rfl rfl)
theorem dX7_readNext_100 : decode cX7_readNext 100 = .ok (.iastore, 1) := dk_79 (dk_at dksX7_readNext_4 9 rfl rfl)
theorem dX7_readNext_101 : decode cX7_readNext 101 = .ok (.aload_n 0, 1) := dk_42 (dk_at dksX7_readNext_4 10 rfl rfl)
theorem dX7_readNext_102 : decode cX7_readNext 102 = .ok (.getfield 31, 3) := dk_180 0 31 (dk_at dksX7_readNext_4 11 rfl rfl)
theorem dX7_readNext_105 : decode cX7_readNext 105 = .ok (.iconst 3, 1) := dk_6 (dk_at dksX7_readNext_4 14 rfl rfl)
theorem dX7_readNext_106 : decode cX7_readNext 106 = .ok (.dup2, 1) := dk_92 (dk_at dksX7_readNext_4 15 rfl rfl)
theorem dX7_readNext_107 : decode cX7_readNext 107 = .ok (.iaload, 1) := dk_46 (dk_at dksX7_readNext_4 16 rfl rfl)
theorem dX7_readNext_108 : decode cX7_readNext 108 = .ok (.iconst 1, 1) := dk_4 (dk_at dksX7_readNext_4 17 rfl rfl)
theorem dX7_readNext_109 : decode cX7_readNext 109 = .ok (.iadd, 1) := dk_96 (dk_at dksX7_readNext_4 18 rfl rfl)
theorem dX7_readNext_110 : decode cX7_readNext 110 = .ok (.iastore, 1) := dk_79 (dk_at dksX7_readNext_4 19 rfl rfl)
theorem dX7_readNext_111 : decode cX7_readNext 111 = .ok (.goto 27, 3) := dk_167 0 27 (dk_at dksX7_readNext_4 20 rfl rfl)
theorem dX7_readNext_114 : decode cX7_readNext 114 = .ok (.aload_n 0, 1) := dk_42 (dk_at dksX7_readNext_4 23 rfl rfl)
theorem dX7_readNext_115 : decode cX7_readNext 115 = .ok (.ldc 224, 2) := dk_18 224 (dk_at dksX7_readNext_5 0 rfl rfl)
theorem dX7_readNext_117 : decode cX7_readNext 117 = .ok (.invokevirtual 158, 3) := dk_182 0 158 (dk_at dksX7_readNext_5 2 rfl rfl)
theorem dX7_readNext_120 : decode cX7_readNext 120 = .ok (.ifCond .eq 10, 3) := dk_153 0 10 (dk_at dksX7_readNext_5 5 rfl rfl)
theorem dX7_readNext_123 : decode cX7_readNext 123 = .ok (.aload_n 0, 1) := dk_42 (dk_at dksX7_readNext_5 8 rfl rfl)
theorem dX7_readNext_124 : decode cX7_readNext 124 = .ok (.invokevirtual 237, 3) := dk_182 0 237 (dk_at dksX7_readNext_5 9 rfl rfl)
theorem dX7_readNext_127 : decode cX7_readNext 127 = .ok (.goto 11, 3) := dk_167 0 11 (dk_at dksX7_readNext_5 12 rfl rfl)
theorem dX7_readNext_130 : decode cX7_readNext 130 = .ok (.aload_n 0, 1) := dk_42 (dk_at dksX7_readNext_5 15 rfl rfl)
theorem dX7_readNext_131 : decode cX7_readNext 131 = .ok (.invokevirtual 155, 3) := dk_182 0 155 (dk_at dksX7_readNext_5 16 rfl rfl)
theorem dX7_readNext_134 : decode cX7_readNext 134 = .ok (.aload_n 0, 1) := dk_42 (dk_at dksX7_readNext_5 19 rfl rfl)
theorem dX7_readNext_135 : decode cX7_readNext 135 = .ok (.invokevirtual 240, 3) := dk_182 0 240 (dk_at dksX7_readNext_5 20 rfl rfl)
theorem dX7_readNext_138 : decode cX7_readNext 138 = .ok (.return_, 1) := dk_177 (dk_at dksX7_readNext_5 23 rfl rfl)
abbrev cX7_isFull : ByteArray := prog_22_method_43_code
def yX7_isFull : MethodName := ⟨RX7, "isFull", "()Z"⟩
def dkwX7_isFull_2 : List UInt8 := [153, 0, 17, 42, 180, 0, 31, 8, 46, 8, 160, 0, 7, 4, 167, 0, 4, 3, 172]
abbrev dktX7_isFull_2 : List UInt8 := dkwX7_isFull_2 ++ []
def dkwX7_isFull_1 : List UInt8 := [182, 0, 151, 153, 0, 15, 42, 180, 0, 31, 7, 46, 8, 160, 0, 5, 4, 172, 42, 18, 226, 182, 0, 151]
abbrev dktX7_isFull_1 : List UInt8 := dkwX7_isFull_1 ++ dktX7_isFull_2
def dkwX7_isFull_0 : List UInt8 := [42, 18, 222, 182, 0, 151, 153, 0, 13, 42, 180, 0, 31, 6, 46, 6, 159, 0, 22, 42, 18, 224]
abbrev dktX7_isFull_0 : List UInt8 := dkwX7_isFull_0 ++ dktX7_isFull_1
theorem dksX7_isFull_0 : cX7_isFull.data.toList.drop 0 = dktX7_isFull_0 := by decide +kernel
theorem dksX7_isFull_1 : cX7_isFull.data.toList.drop 22 = dktX7_isFull_1 := dk_seg dksX7_isFull_0 22 rfl rfl
theorem dksX7_isFull_2 : cX7_isFull.data.toList.drop 46 = dktX7_isFull_2 := dk_seg dksX7_isFull_1 24 rfl rfl
theorem dX7_isFull_0 : decode cX7_isFull 0 = .ok (.aload_n 0, 1) := dk_42 (dk_at dksX7_isFull_0 0 rfl rfl)
theorem dX7_isFull_1 : decode cX7_isFull 1 = .ok (.ldc 222, 2) := dk_18 222 (dk_at dksX7_isFull_0 1 rfl rfl)
theorem dX7_isFull_3 : decode cX7_isFull 3 = .ok (.invokevirtual 151, 3) := dk_182 0 151 (dk_at dksX7_isFull_0 3 rfl rfl)
theorem dX7_isFull_6 : decode cX7_isFull 6 = .ok (.ifCond .eq 13, 3) := dk_153 0 13 (dk_at dksX7_isFull_0 6 rfl rfl)
theorem dX7_isFull_9 : decode cX7_isFull 9 = .ok (.aload_n 0, 1) := dk_42 (dk_at dksX7_isFull_0 9 rfl rfl)
theorem dX7_isFull_10 : decode cX7_isFull 10 = .ok (.getfield 31, 3) := dk_180 0 31 (dk_at dksX7_isFull_0 10 rfl rfl)
theorem dX7_isFull_13 : decode cX7_isFull 13 = .ok (.iconst 3, 1) := dk_6 (dk_at dksX7_isFull_0 13 rfl rfl)
theorem dX7_isFull_14 : decode cX7_isFull 14 = .ok (.iaload, 1) := dk_46 (dk_at dksX7_isFull_0 14 rfl rfl)
theorem dX7_isFull_15 : decode cX7_isFull 15 = .ok (.iconst 3, 1) := dk_6 (dk_at dksX7_isFull_0 15 rfl rfl)
theorem dX7_isFull_16 : decode cX7_isFull 16 = .ok (.if_icmp .eq 22, 3) := dk_159 0 22 (dk_at dksX7_isFull_0 16 rfl rfl)
theorem dX7_isFull_19 : decode cX7_isFull 19 = .ok (.aload_n 0, 1) := dk_42 (dk_at dksX7_isFull_0 19 rfl rfl)
theorem dX7_isFull_20 : decode cX7_isFull 20 = .ok (.ldc 224, 2) := dk_18 224 (dk_at dksX7_isFull_0 20 rfl rfl)
theorem dX7_isFull_22 : decode cX7_isFull 22 = .ok (.invokevirtual 151, 3) := dk_182 0 151 (dk_at dksX7_isFull_1 0 rfl rfl)
theorem dX7_isFull_25 : decode cX7_isFull 25 = .ok (.ifCond .eq 15, 3) := dk_153 0 15 (dk_at dksX7_isFull_1 3 rfl rfl)
theorem dX7_isFull_28 : decode cX7_isFull 28 = .ok (.aload_n 0, 1) := dk_42 (dk_at dksX7_isFull_1 6 rfl rfl)
theorem dX7_isFull_29 : decode cX7_isFull 29 = .ok (.getfield 31, 3) := dk_180 0 31 (dk_at dksX7_isFull_1 7 rfl rfl)
theorem dX7_isFull_32 : decode cX7_isFull 32 = .ok (.iconst 4, 1) := dk_7 (dk_at dksX7_isFull_1 10 rfl rfl)
theorem dX7_isFull_33 : decode cX7_isFull 33 = .ok (.iaload, 1) := dk_46 (dk_at dksX7_isFull_1 11 rfl rfl)
theorem dX7_isFull_34 : decode cX7_isFull 34 = .ok (.iconst 5, 1) := dk_8 (dk_at dksX7_isFull_1 12 rfl rfl)
theorem dX7_isFull_35 : decode cX7_isFull 35 = .ok (.if_icmp .ne 5, 3) := dk_160 0 5 (dk_at dksX7_isFull_1 13 rfl rfl)
theorem dX7_isFull_38 : decode cX7_isFull 38 = .ok (.iconst 1, 1) := dk_4 (dk_at dksX7_isFull_1 16 rfl rfl)
theorem dX7_isFull_39 : decode cX7_isFull 39 = .ok (.ireturn, 1) := dk_172 (dk_at dksX7_isFull_1 17 rfl rfl)
theorem dX7_isFull_40 : decode cX7_isFull 40 = .ok (.aload_n 0, 1) := dk_42 (dk_at dksX7_isFull_1 18 rfl rfl)
theorem dX7_isFull_41 : decode cX7_isFull 41 = .ok (.ldc 226, 2) := dk_18 226 (dk_at dksX7_isFull_1 19 rfl rfl)
theorem dX7_isFull_43 : decode cX7_isFull 43 = .ok (.invokevirtual 151, 3) := dk_182 0 151 (dk_at dksX7_isFull_1 21 rfl rfl)
theorem dX7_isFull_46 : decode cX7_isFull 46 = .ok (.ifCond .eq 17, 3) := dk_153 0 17 (dk_at dksX7_isFull_2 0 rfl rfl)
theorem dX7_isFull_49 : decode cX7_isFull 49 = .ok (.aload_n 0, 1) := dk_42 (dk_at dksX7_isFull_2 3 rfl rfl)
theorem dX7_isFull_50 : decode cX7_isFull 50 = .ok (.getfield 31, 3) := dk_180 0 31 (dk_at dksX7_isFull_2 4 rfl rfl)
theorem dX7_isFull_53 : decode cX7_isFull 53 = .ok (.iconst 5, 1) := dk_8 (dk_at dksX7_isFull_2 7 rfl rfl)
theorem dX7_isFull_54 : decode cX7_isFull 54 = .ok (.iaload, 1) := dk_46 (dk_at dksX7_isFull_2 8 rfl rfl)
theorem dX7_isFull_55 : decode cX7_isFull 55 = .ok (.iconst 5, 1) := dk_8 (dk_at dksX7_isFull_2 9 rfl rfl)
theorem dX7_isFull_56 : decode cX7_isFull 56 = .ok (.if_icmp .ne 7, 3) := dk_160 0 7 (dk_at dksX7_isFull_2 10 rfl rfl)
theorem dX7_isFull_59 : decode cX7_isFull 59 = .ok (.iconst 1, 1) := dk_4 (dk_at dksX7_isFull_2 13 rfl rfl)
theorem dX7_isFull_60 : decode cX7_isFull 60 = .ok (.goto 4, 3) := dk_167 0 4 (dk_at dksX7_isFull_2 14 rfl rfl)
theorem dX7_isFull_63 : decode cX7_isFull 63 = .ok (.iconst 0, 1) := dk_3 (dk_at dksX7_isFull_2 17 rfl rfl)
theorem dX7_isFull_64 : decode cX7_isFull 64 = .ok (.ireturn, 1) := dk_172 (dk_at dksX7_isFull_2 18 rfl rfl)
abbrev cX7_readKind : ByteArray := prog_22_method_40_code
def yX7_readKind : MethodName := ⟨RX7, "readKind", "(Ljava/lang/String;Ljava/lang/String;Ljava/lang/String;Ljava/lang/String;Ljava/lang/String;Ljava/lang/String;)I"⟩
def dkwX7_readKind_1 : List UInt8 := [182, 0, 161, 42, 182, 0, 139, 153, 0, 7, 42, 182, 0, 155, 3, 21, 7, 184, 0, 191, 172]
abbrev dktX7_readKind_1 : List UInt8 := dkwX7_readKind_1 ++ []
def dkwX7_readKind_0 : List UInt8 := [42, 43, 44, 45, 25, 4, 25, 5, 25, 6, 182, 0, 187, 54, 7, 21, 7, 2, 160, 0, 8, 42, 4]
abbrev dktX7_readKind_0 : List UInt8 := dkwX7_readKind_0 ++ dktX7_readKind_1
theorem dksX7_readKind_0 : cX7_readKind.data.toList.drop 0 = dktX7_readKind_0 := by decide +kernel
theorem dksX7_readKind_1 : cX7_readKind.data.toList.drop 23 = dktX7_readKind_1 := dk_seg dksX7_readKind_0 23 rfl rfl
theorem dX7_readKind_0 : decode cX7_readKind 0 = .ok (.aload_n 0, 1) := dk_42 (dk_at dksX7_readKind_0 0 rfl rfl)
theorem dX7_readKind_1 : decode cX7_readKind 1 = .ok (.aload_n 1, 1) := dk_43 (dk_at dksX7_readKind_0 1 rfl rfl)
theorem dX7_readKind_2 : decode cX7_readKind 2 = .ok (.aload_n 2, 1) := dk_44 (dk_at dksX7_readKind_0 2 rfl rfl)
theorem dX7_readKind_3 : decode cX7_readKind 3 = .ok (.aload_n 3, 1) := dk_45 (dk_at dksX7_readKind_0 3 rfl rfl)
theorem dX7_readKind_4 : decode cX7_readKind 4 = .ok (.aload 4, 2) := dk_25 4 (dk_at dksX7_readKind_0 4 rfl rfl)
theorem dX7_readKind_6 : decode cX7_readKind 6 = .ok (.aload 5, 2) := dk_25 5 (dk_at dksX7_readKind_0 6 rfl rfl)
theorem dX7_readKind_8 : decode cX7_readKind 8 = .ok (.aload 6, 2) := dk_25 6 (dk_at dksX7_readKind_0 8 rfl rfl)
theorem dX7_readKind_10 : decode cX7_readKind 10 = .ok (.invokevirtual 187, 3) := dk_182 0 187 (dk_at dksX7_readKind_0 10 rfl rfl)
theorem dX7_readKind_13 : decode cX7_readKind 13 = .ok (.istore 7, 2) := dk_54 7 (dk_at dksX7_readKind_0 13 rfl rfl)
theorem dX7_readKind_15 : decode cX7_readKind 15 = .ok (.iload 7, 2) := dk_21 7 (dk_at dksX7_readKind_0 15 rfl rfl)
theorem dX7_readKind_17 : decode cX7_readKind 17 = .ok (.iconst (-1), 1) := dk_2 (dk_at dksX7_readKind_0 17 rfl rfl)
theorem dX7_readKind_18 : decode cX7_readKind 18 = .ok (.if_icmp .ne 8, 3) := dk_160 0 8 (dk_at dksX7_readKind_0 18 rfl rfl)
theorem dX7_readKind_21 : decode cX7_readKind 21 = .ok (.aload_n 0, 1) := dk_42 (dk_at dksX7_readKind_0 21 rfl rfl)
theorem dX7_readKind_22 : decode cX7_readKind 22 = .ok (.iconst 1, 1) := dk_4 (dk_at dksX7_readKind_0 22 rfl rfl)
theorem dX7_readKind_23 : decode cX7_readKind 23 = .ok (.invokevirtual 161, 3) := dk_182 0 161 (dk_at dksX7_readKind_1 0 rfl rfl)
theorem dX7_readKind_26 : decode cX7_readKind 26 = .ok (.aload_n 0, 1) := dk_42 (dk_at dksX7_readKind_1 3 rfl rfl)
theorem dX7_readKind_27 : decode cX7_readKind 27 = .ok (.invokevirtual 139, 3) := dk_182 0 139 (dk_at dksX7_readKind_1 4 rfl rfl)
theorem dX7_readKind_30 : decode cX7_readKind 30 = .ok (.ifCond .eq 7, 3) := dk_153 0 7 (dk_at dksX7_readKind_1 7 rfl rfl)
theorem dX7_readKind_33 : decode cX7_readKind 33 = .ok (.aload_n 0, 1) := dk_42 (dk_at dksX7_readKind_1 10 rfl rfl)
theorem dX7_readKind_34 : decode cX7_readKind 34 = .ok (.invokevirtual 155, 3) := dk_182 0 155 (dk_at dksX7_readKind_1 11 rfl rfl)
theorem dX7_readKind_37 : decode cX7_readKind 37 = .ok (.iconst 0, 1) := dk_3 (dk_at dksX7_readKind_1 14 rfl rfl)
theorem dX7_readKind_38 : decode cX7_readKind 38 = .ok (.iload 7, 2) := dk_21 7 (dk_at dksX7_readKind_1 15 rfl rfl)
theorem dX7_readKind_40 : decode cX7_readKind 40 = .ok (.invokestatic 191, 3) := dk_184 0 191 (dk_at dksX7_readKind_1 17 rfl rfl)
theorem dX7_readKind_43 : decode cX7_readKind 43 = .ok (.ireturn, 1) := dk_172 (dk_at dksX7_readKind_1 20 rfl rfl)
abbrev cX7_kindWord : ByteArray := prog_22_method_39_code
def yX7_kindWord : MethodName := ⟨RX7, "kindWord", "(Ljava/lang/String;Ljava/lang/String;Ljava/lang/String;Ljava/lang/String;Ljava/lang/String;Ljava/lang/String;)I"⟩
def dkwX7_kindWord_3 : List UInt8 := [153, 0, 7, 8, 167, 0, 4, 2, 172]
abbrev dktX7_kindWord_3 : List UInt8 := dkwX7_kindWord_3 ++ []
def dkwX7_kindWord_2 : List UInt8 := [167, 0, 30, 42, 25, 5, 182, 0, 151, 153, 0, 7, 7, 167, 0, 17, 42, 25, 6, 182, 0, 151]
abbrev dktX7_kindWord_2 : List UInt8 := dkwX7_kindWord_2 ++ dktX7_kindWord_3
def dkwX7_kindWord_1 : List UInt8 := [42, 45, 182, 0, 151, 153, 0, 7, 5, 167, 0, 43, 42, 25, 4, 182, 0, 151, 153, 0, 7, 6]
abbrev dktX7_kindWord_1 : List UInt8 := dkwX7_kindWord_1 ++ dktX7_kindWord_2
def dkwX7_kindWord_0 : List UInt8 := [42, 43, 182, 0, 151, 153, 0, 7, 3, 167, 0, 67, 42, 44, 182, 0, 151, 153, 0, 7, 4, 167, 0, 55]
abbrev dktX7_kindWord_0 : List UInt8 := dkwX7_kindWord_0 ++ dktX7_kindWord_1
theorem dksX7_kindWord_0 : cX7_kindWord.data.toList.drop 0 = dktX7_kindWord_0 := by decide +kernel
theorem dksX7_kindWord_1 : cX7_kindWord.data.toList.drop 24 = dktX7_kindWord_1 := dk_seg dksX7_kindWord_0 24 rfl rfl
theorem dksX7_kindWord_2 : cX7_kindWord.data.toList.drop 46 = dktX7_kindWord_2 := dk_seg dksX7_kindWord_1 22 rfl rfl
theorem dksX7_kindWord_3 : cX7_kindWord.data.toList.drop 68 = dktX7_kindWord_3 := dk_seg dksX7_kindWord_2 22 rfl rfl
theorem dX7_kindWord_0 : decode cX7_kindWord 0 = .ok (.aload_n 0, 1) := dk_42 (dk_at dksX7_kindWord_0 0 rfl rfl)
theorem dX7_kindWord_1 : decode cX7_kindWord 1 = .ok (.aload_n 1, 1) := dk_43 (dk_at dksX7_kindWord_0 1 rfl rfl)
theorem dX7_kindWord_2 : decode cX7_kindWord 2 = .ok (.invokevirtual 151, 3) := dk_182 0 151 (dk_at dksX7_kindWord_0 2 rfl rfl)
theorem dX7_kindWord_5 : decode cX7_kindWord 5 = .ok (.ifCond .eq 7, 3) := dk_153 0 7 (dk_at dksX7_kindWord_0 5 rfl rfl)
theorem dX7_kindWord_8 : decode cX7_kindWord 8 = .ok (.iconst 0, 1) := dk_3 (dk_at dksX7_kindWord_0 8 rfl rfl)
theorem dX7_kindWord_9 : decode cX7_kindWord 9 = .ok (.goto 67, 3) := dk_167 0 67 (dk_at dksX7_kindWord_0 9 rfl rfl)
theorem dX7_kindWord_12 : decode cX7_kindWord 12 = .ok (.aload_n 0, 1) := dk_42 (dk_at dksX7_kindWord_0 12 rfl rfl)
theorem dX7_kindWord_13 : decode cX7_kindWord 13 = .ok (.aload_n 2, 1) := dk_44 (dk_at dksX7_kindWord_0 13 rfl rfl)
theorem dX7_kindWord_14 : decode cX7_kindWord 14 = .ok (.invokevirtual 151, 3) := dk_182 0 151 (dk_at dksX7_kindWord_0 14 rfl rfl)
theorem dX7_kindWord_17 : decode cX7_kindWord 17 = .ok (.ifCond .eq 7, 3) := dk_153 0 7 (dk_at dksX7_kindWord_0 17 rfl rfl)
theorem dX7_kindWord_20 : decode cX7_kindWord 20 = .ok (.iconst 1, 1) := dk_4 (dk_at dksX7_kindWord_0 20 rfl rfl)
theorem dX7_kindWord_21 : decode cX7_kindWord 21 = .ok (.goto 55, 3) := dk_167 0 55 (dk_at dksX7_kindWord_0 21 rfl rfl)
theorem dX7_kindWord_24 : decode cX7_kindWord 24 = .ok (.aload_n 0, 1) := dk_42 (dk_at dksX7_kindWord_1 0 rfl rfl)
theorem dX7_kindWord_25 : decode cX7_kindWord 25 = .ok (.aload_n 3, 1) := dk_45 (dk_at dksX7_kindWord_1 1 rfl rfl)
theorem dX7_kindWord_26 : decode cX7_kindWord 26 = .ok (.invokevirtual 151, 3) := dk_182 0 151 (dk_at dksX7_kindWord_1 2 rfl rfl)
theorem dX7_kindWord_29 : decode cX7_kindWord 29 = .ok (.ifCond .eq 7, 3) := dk_153 0 7 (dk_at dksX7_kindWord_1 5 rfl rfl)
theorem dX7_kindWord_32 : decode cX7_kindWord 32 = .ok (.iconst 2, 1) := dk_5 (dk_at dksX7_kindWord_1 8 rfl rfl)
theorem dX7_kindWord_33 : decode cX7_kindWord 33 = .ok (.goto 43, 3) := dk_167 0 43 (dk_at dksX7_kindWord_1 9 rfl rfl)
theorem dX7_kindWord_36 : decode cX7_kindWord 36 = .ok (.aload_n 0, 1) := dk_42 (dk_at dksX7_kindWord_1 12 rfl rfl)
theorem dX7_kindWord_37 : decode cX7_kindWord 37 = .ok (.aload 4, 2) := dk_25 4 (dk_at dksX7_kindWord_1 13 rfl rfl)
theorem dX7_kindWord_39 : decode cX7_kindWord 39 = .ok (.invokevirtual 151, 3) := dk_182 0 151 (dk_at dksX7_kindWord_1 15 rfl rfl)
theorem dX7_kindWord_42 : decode cX7_kindWord 42 = .ok (.ifCond .eq 7, 3) := dk_153 0 7 (dk_at dksX7_kindWord_1 18 rfl rfl)
theorem dX7_kindWord_45 : decode cX7_kindWord 45 = .ok (.iconst 3, 1) := dk_6 (dk_at dksX7_kindWord_1 21 rfl rfl)
theorem dX7_kindWord_46 : decode cX7_kindWord 46 = .ok (.goto 30, 3) := dk_167 0 30 (dk_at dksX7_kindWord_2 0 rfl rfl)
theorem dX7_kindWord_49 : decode cX7_kindWord 49 = .ok (.aload_n 0, 1) := dk_42 (dk_at dksX7_kindWord_2 3 rfl rfl)
theorem dX7_kindWord_50 : decode cX7_kindWord 50 = .ok (.aload 5, 2) := dk_25 5 (dk_at dksX7_kindWord_2 4 rfl rfl)
theorem dX7_kindWord_52 : decode cX7_kindWord 52 = .ok (.invokevirtual 151, 3) := dk_182 0 151 (dk_at dksX7_kindWord_2 6 rfl rfl)
theorem dX7_kindWord_55 : decode cX7_kindWord 55 = .ok (.ifCond .eq 7, 3) := dk_153 0 7 (dk_at dksX7_kindWord_2 9 rfl rfl)
theorem dX7_kindWord_58 : decode cX7_kindWord 58 = .ok (.iconst 4, 1) := dk_7 (dk_at dksX7_kindWord_2 12 rfl rfl)
theorem dX7_kindWord_59 : decode cX7_kindWord 59 = .ok (.goto 17, 3) := dk_167 0 17 (dk_at dksX7_kindWord_2 13 rfl rfl)
theorem dX7_kindWord_62 : decode cX7_kindWord 62 = .ok (.aload_n 0, 1) := dk_42 (dk_at dksX7_kindWord_2 16 rfl rfl)
theorem dX7_kindWord_63 : decode cX7_kindWord 63 = .ok (.aload 6, 2) := dk_25 6 (dk_at dksX7_kindWord_2 17 rfl rfl)
theorem dX7_kindWord_65 : decode cX7_kindWord 65 = .ok (.invokevirtual 151, 3) := dk_182 0 151 (dk_at dksX7_kindWord_2 19 rfl rfl)
theorem dX7_kindWord_68 : decode cX7_kindWord 68 = .ok (.ifCond .eq 7, 3) := dk_153 0 7 (dk_at dksX7_kindWord_3 0 rfl rfl)
theorem dX7_kindWord_71 : decode cX7_kindWord 71 = .ok (.iconst 5, 1) := dk_8 (dk_at dksX7_kindWord_3 3 rfl rfl)
theorem dX7_kindWord_72 : decode cX7_kindWord 72 = .ok (.goto 4, 3) := dk_167 0 4 (dk_at dksX7_kindWord_3 4 rfl rfl)
theorem dX7_kindWord_75 : decode cX7_kindWord 75 = .ok (.iconst (-1), 1) := dk_2 (dk_at dksX7_kindWord_3 7 rfl rfl)
theorem dX7_kindWord_76 : decode cX7_kindWord 76 = .ok (.ireturn, 1) := dk_172 (dk_at dksX7_kindWord_3 8 rfl rfl)
abbrev cX7_readRule : ByteArray := prog_22_method_41_code
def yX7_readRule : MethodName := ⟨RX7, "readRule", "()V"⟩
def dkwX7_readRule_7 : List UInt8 := [92, 46, 4, 96, 79, 177]
abbrev dktX7_readRule_7 : List UInt8 := dkwX7_readRule_7 ++ []
def dkwX7_readRule_6 : List UInt8 := [42, 180, 0, 31, 27, 7, 96, 42, 3, 42, 180, 0, 31, 3, 46, 182, 0, 169, 79, 42, 180, 0, 31, 7]
abbrev dktX7_readRule_6 : List UInt8 := dkwX7_readRule_6 ++ dktX7_readRule_7
def dkwX7_readRule_5 : List UInt8 := [3, 16, 6, 182, 0, 169, 79, 28, 8, 160, 0, 34, 42, 180, 0, 31, 27, 6, 96, 42, 182, 0, 184, 79]
abbrev dktX7_readRule_5 : List UInt8 := dkwX7_readRule_5 ++ dktX7_readRule_6
def dkwX7_readRule_4 : List UInt8 := [180, 0, 31, 27, 4, 96, 46, 182, 0, 209, 79, 28, 6, 160, 0, 18, 42, 180, 0, 31, 27, 6, 96, 42]
abbrev dktX7_readRule_4 : List UInt8 := dkwX7_readRule_4 ++ dktX7_readRule_5
def dkwX7_readRule_3 : List UInt8 := [42, 180, 0, 31, 3, 46, 182, 0, 169, 79, 167, 0, 23, 42, 180, 0, 31, 27, 5, 96, 42, 42]
abbrev dktX7_readRule_3 : List UInt8 := dkwX7_readRule_3 ++ dktX7_readRule_4
def dkwX7_readRule_2 : List UInt8 := [79, 28, 153, 0, 13, 28, 4, 159, 0, 8, 28, 8, 160, 0, 25, 42, 180, 0, 31, 27, 5, 96, 42, 3]
abbrev dktX7_readRule_2 : List UInt8 := dkwX7_readRule_2 ++ dktX7_readRule_3
def dkwX7_readRule_1 : List UInt8 := [18, 204, 182, 0, 206, 61, 42, 180, 0, 31, 27, 28, 79, 42, 180, 0, 31, 27, 4, 96, 42, 182, 0, 184]
abbrev dktX7_readRule_1 : List UInt8 := dkwX7_readRule_1 ++ dktX7_readRule_2
def dkwX7_readRule_0 : List UInt8 := [16, 11, 8, 42, 180, 0, 31, 7, 46, 104, 96, 60, 42, 18, 194, 18, 196, 18, 198, 18, 200, 18, 202]
abbrev dktX7_readRule_0 : List UInt8 := dkwX7_readRule_0 ++ dktX7_readRule_1
theorem dksX7_readRule_0 : cX7_readRule.data.toList.drop 0 = dktX7_readRule_0 := by decide +kernel
theorem dksX7_readRule_1 : cX7_readRule.data.toList.drop 23 = dktX7_readRule_1 := dk_seg dksX7_readRule_0 23 rfl rfl
theorem dksX7_readRule_2 : cX7_readRule.data.toList.drop 47 = dktX7_readRule_2 := dk_seg dksX7_readRule_1 24 rfl rfl
theorem dksX7_readRule_3 : cX7_readRule.data.toList.drop 71 = dktX7_readRule_3 := dk_seg dksX7_readRule_2 24 rfl rfl
theorem dksX7_readRule_4 : cX7_readRule.data.toList.drop 93 = dktX7_readRule_4 := dk_seg dksX7_readRule_3 22 rfl rfl
theorem dksX7_readRule_5 : cX7_readRule.data.toList.drop 117 = dktX7_readRule_5 := dk_seg dksX7_readRule_4 24 rfl rfl
theorem dksX7_readRule_6 : cX7_readRule.data.toList.drop 141 = dktX7_readRule_6 := dk_seg dksX7_readRule_5 24 rfl rfl
theorem dksX7_readRule_7 : cX7_readRule.data.toList.drop 165 = dktX7_readRule_7 := dk_seg dksX7_readRule_6 24 rfl rfl
theorem dX7_readRule_0 : decode cX7_readRule 0 = .ok (.bipush 11, 2) := dk_16 11 (dk_at dksX7_readRule_0 0 rfl rfl)
theorem dX7_readRule_2 : decode cX7_readRule 2 = .ok (.iconst 5, 1) := dk_8 (dk_at dksX7_readRule_0 2 rfl rfl)
theorem dX7_readRule_3 : decode cX7_readRule 3 = .ok (.aload_n 0, 1) := dk_42 (dk_at dksX7_readRule_0 3 rfl rfl)
theorem dX7_readRule_4 : decode cX7_readRule 4 = .ok (.getfield 31, 3) := dk_180 0 31 (dk_at dksX7_readRule_0 4 rfl rfl)
theorem dX7_readRule_7 : decode cX7_readRule 7 = .ok (.iconst 4, 1) := dk_7 (dk_at dksX7_readRule_0 7 rfl rfl)
theorem dX7_readRule_8 : decode cX7_readRule 8 = .ok (.iaload, 1) := dk_46 (dk_at dksX7_readRule_0 8 rfl rfl)
theorem dX7_readRule_9 : decode cX7_readRule 9 = .ok (.imul, 1) := dk_104 (dk_at dksX7_readRule_0 9 rfl rfl)
theorem dX7_readRule_10 : decode cX7_readRule 10 = .ok (.iadd, 1) := dk_96 (dk_at dksX7_readRule_0 10 rfl rfl)
theorem dX7_readRule_11 : decode cX7_readRule 11 = .ok (.istore_n 1, 1) := dk_60 (dk_at dksX7_readRule_0 11 rfl rfl)
theorem dX7_readRule_12 : decode cX7_readRule 12 = .ok (.aload_n 0, 1) := dk_42 (dk_at dksX7_readRule_0 12 rfl rfl)
theorem dX7_readRule_13 : decode cX7_readRule 13 = .ok (.ldc 194, 2) := dk_18 194 (dk_at dksX7_readRule_0 13 rfl rfl)
theorem dX7_readRule_15 : decode cX7_readRule 15 = .ok (.ldc 196, 2) := dk_18 196 (dk_at dksX7_readRule_0 15 rfl rfl)
theorem dX7_readRule_17 : decode cX7_readRule 17 = .ok (.ldc 198, 2) := dk_18 198 (dk_at dksX7_readRule_0 17 rfl rfl)
theorem dX7_readRule_19 : decode cX7_readRule 19 = .ok (.ldc 200, 2) := dk_18 200 (dk_at dksX7_readRule_0 19 rfl rfl)
theorem dX7_readRule_21 : decode cX7_readRule 21 = .ok (.ldc 202, 2) := dk_18 202 (dk_at dksX7_readRule_0 21 rfl rfl)
theorem dX7_readRule_23 : decode cX7_readRule 23 = .ok (.ldc 204, 2) := dk_18 204 (dk_at dksX7_readRule_1 0 rfl rfl)
theorem dX7_readRule_25 : decode cX7_readRule 25 = .ok (.invokevirtual 206, 3) := dk_182 0 206 (dk_at dksX7_readRule_1 2 rfl rfl)
theorem dX7_readRule_28 : decode cX7_readRule 28 = .ok (.istore_n 2, 1) := dk_61 (dk_at dksX7_readRule_1 5 rfl rfl)
theorem dX7_readRule_29 : decode cX7_readRule 29 = .ok (.aload_n 0, 1) := dk_42 (dk_at dksX7_readRule_1 6 rfl rfl)
theorem dX7_readRule_30 : decode cX7_readRule 30 = .ok (.getfield 31, 3) := dk_180 0 31 (dk_at dksX7_readRule_1 7 rfl rfl)
theorem dX7_readRule_33 : decode cX7_readRule 33 = .ok (.iload_n 1, 1) := dk_27 (dk_at dksX7_readRule_1 10 rfl rfl)
theorem dX7_readRule_34 : decode cX7_readRule 34 = .ok (.iload_n 2, 1) := dk_28 (dk_at dksX7_readRule_1 11 rfl rfl)
theorem dX7_readRule_35 : decode cX7_readRule 35 = .ok (.iastore, 1) := dk_79 (dk_at dksX7_readRule_1 12 rfl rfl)
theorem dX7_readRule_36 : decode cX7_readRule 36 = .ok (.aload_n 0, 1) := dk_42 (dk_at dksX7_readRule_1 13 rfl rfl)
theorem dX7_readRule_37 : decode cX7_readRule 37 = .ok (.getfield 31, 3) := dk_180 0 31 (dk_at dksX7_readRule_1 14 rfl rfl)
theorem dX7_readRule_40 : decode cX7_readRule 40 = .ok (.iload_n 1, 1) := dk_27 (dk_at dksX7_readRule_1 17 rfl rfl)
theorem dX7_readRule_41 : decode cX7_readRule 41 = .ok (.iconst 1, 1) := dk_4 (dk_at dksX7_readRule_1 18 rfl rfl)
theorem dX7_readRule_42 : decode cX7_readRule 42 = .ok (.iadd, 1) := dk_96 (dk_at dksX7_readRule_1 19 rfl rfl)
theorem dX7_readRule_43 : decode cX7_readRule 43 = .ok (.aload_n 0, 1) := dk_42 (dk_at dksX7_readRule_1 20 rfl rfl)
theorem dX7_readRule_44 : decode cX7_readRule 44 = .ok (.invokevirtual 184, 3) := dk_182 0 184 (dk_at dksX7_readRule_1 21 rfl rfl)
theorem dX7_readRule_47 : decode cX7_readRule 47 = .ok (.iastore, 1) := dk_79 (dk_at dksX7_readRule_2 0 rfl rfl)
theorem dX7_readRule_48 : decode cX7_readRule 48 = .ok (.iload_n 2, 1) := dk_28 (dk_at dksX7_readRule_2 1 rfl rfl)
theorem dX7_readRule_49 : decode cX7_readRule 49 = .ok (.ifCond .eq 13, 3) := dk_153 0 13 (dk_at dksX7_readRule_2 2 rfl rfl)
theorem dX7_readRule_52 : decode cX7_readRule 52 = .ok (.iload_n 2, 1) := dk_28 (dk_at dksX7_readRule_2 5 rfl rfl)
theorem dX7_readRule_53 : decode cX7_readRule 53 = .ok (.iconst 1, 1) := dk_4 (dk_at dksX7_readRule_2 6 rfl rfl)
theorem dX7_readRule_54 : decode cX7_readRule 54 = .ok (.if_icmp .eq 8, 3) := dk_159 0 8 (dk_at dksX7_readRule_2 7 rfl rfl)
theorem dX7_readRule_57 : decode cX7_readRule 57 = .ok (.iload_n 2, 1) := dk_28 (dk_at dksX7_readRule_2 10 rfl rfl)
theorem dX7_readRule_58 : decode cX7_readRule 58 = .ok (.iconst 5, 1) := dk_8 (dk_at dksX7_readRule_2 11 rfl rfl)
theorem dX7_readRule_59 : decode cX7_readRule 59 = .ok (.if_icmp .ne 25, 3) := dk_160 0 25 (dk_at dksX7_readRule_2 12 rfl rfl)
theorem dX7_readRule_62 : decode cX7_readRule 62 = .ok (.aload_n 0, 1) := dk_42 (dk_at dksX7_readRule_2 15 rfl rfl)
theorem dX7_readRule_63 : decode cX7_readRule 63 = .ok (.getfield 31, 3) := dk_180 0 31 (dk_at dksX7_readRule_2 16 rfl rfl)
theorem dX7_readRule_66 : decode cX7_readRule 66 = .ok (.iload_n 1, 1) := dk_27 (dk_at dksX7_readRule_2 19 rfl rfl)
theorem dX7_readRule_67 : decode cX7_readRule 67 = .ok (.iconst 2, 1) := dk_5 (dk_at dksX7_readRule_2 20 rfl rfl)
theorem dX7_readRule_68 : decode cX7_readRule 68 = .ok (.iadd, 1) := dk_96 (dk_at dksX7_readRule_2 21 rfl rfl)
theorem dX7_readRule_69 : decode cX7_readRule 69 = .ok (.aload_n 0, 1) := dk_42 (dk_at dksX7_readRule_2 22 rfl rfl)
theorem dX7_readRule_70 : decode cX7_readRule 70 = .ok (.iconst 0, 1) := dk_3 (dk_at dksX7_readRule_2 23 rfl rfl)
theorem dX7_readRule_71 : decode cX7_readRule 71 = .ok (.aload_n 0, 1) := dk_42 (dk_at dksX7_readRule_3 0 rfl rfl)
theorem dX7_readRule_72 : decode cX7_readRule 72 = .ok (.getfield 31, 3) := dk_180 0 31 (dk_at dksX7_readRule_3 1 rfl rfl)
theorem dX7_readRule_75 : decode cX7_readRule 75 = .ok (.iconst 0, 1) := dk_3 (dk_at dksX7_readRule_3 4 rfl rfl)
theorem dX7_readRule_76 : decode cX7_readRule 76 = .ok (.iaload, 1) := dk_46 (dk_at dksX7_readRule_3 5 rfl rfl)
theorem dX7_readRule_77 : decode cX7_readRule 77 = .ok (.invokevirtual 169, 3) := dk_182 0 169 (dk_at dksX7_readRule_3 6 rfl rfl)
theorem dX7_readRule_80 : decode cX7_readRule 80 = .ok (.iastore, 1) := dk_79 (dk_at dksX7_readRule_3 9 rfl rfl)
theorem dX7_readRule_81 : decode cX7_readRule 81 = .ok (.goto 23, 3) := dk_167 0 23 (dk_at dksX7_readRule_3 10 rfl rfl)
theorem dX7_readRule_84 : decode cX7_readRule 84 = .ok (.aload_n 0, 1) := dk_42 (dk_at dksX7_readRule_3 13 rfl rfl)
theorem dX7_readRule_85 : decode cX7_readRule 85 = .ok (.getfield 31, 3) := dk_180 0 31 (dk_at dksX7_readRule_3 14 rfl rfl)
theorem dX7_readRule_88 : decode cX7_readRule 88 = .ok (.iload_n 1, 1) := dk_27 (dk_at dksX7_readRule_3 17 rfl rfl)
theorem dX7_readRule_89 : decode cX7_readRule 89 = .ok (.iconst 2, 1) := dk_5 (dk_at dksX7_readRule_3 18 rfl rfl)
theorem dX7_readRule_90 : decode cX7_readRule 90 = .ok (.iadd, 1) := dk_96 (dk_at dksX7_readRule_3 19 rfl rfl)
theorem dX7_readRule_91 : decode cX7_readRule 91 = .ok (.aload_n 0, 1) := dk_42 (dk_at dksX7_readRule_3 20 rfl rfl)
theorem dX7_readRule_92 : decode cX7_readRule 92 = .ok (.aload_n 0, 1) := dk_42 (dk_at dksX7_readRule_3 21 rfl rfl)
theorem dX7_readRule_93 : decode cX7_readRule 93 = .ok (.getfield 31, 3) := dk_180 0 31 (dk_at dksX7_readRule_4 0 rfl rfl)
theorem dX7_readRule_96 : decode cX7_readRule 96 = .ok (.iload_n 1, 1) := dk_27 (dk_at dksX7_readRule_4 3 rfl rfl)
theorem dX7_readRule_97 : decode cX7_readRule 97 = .ok (.iconst 1, 1) := dk_4 (dk_at dksX7_readRule_4 4 rfl rfl)
theorem dX7_readRule_98 : decode cX7_readRule 98 = .ok (.iadd, 1) := dk_96 (dk_at dksX7_readRule_4 5 rfl rfl)
theorem dX7_readRule_99 : decode cX7_readRule 99 = .ok (.iaload, 1) := dk_46 (dk_at dksX7_readRule_4 6 rfl rfl)
theorem dX7_readRule_100 : decode cX7_readRule 100 = .ok (.invokevirtual 209, 3) := dk_182 0 209 (dk_at dksX7_readRule_4 7 rfl rfl)
theorem dX7_readRule_103 : decode cX7_readRule 103 = .ok (.iastore, 1) := dk_79 (dk_at dksX7_readRule_4 10 rfl rfl)
theorem dX7_readRule_104 : decode cX7_readRule 104 = .ok (.iload_n 2, 1) := dk_28 (dk_at dksX7_readRule_4 11 rfl rfl)
theorem dX7_readRule_105 : decode cX7_readRule 105 = .ok (.iconst 3, 1) := dk_6 (dk_at dksX7_readRule_4 12 rfl rfl)
theorem dX7_readRule_106 : decode cX7_readRule 106 = .ok (.if_icmp .ne 18, 3) := dk_160 0 18 (dk_at dksX7_readRule_4 13 rfl rfl)
theorem dX7_readRule_109 : decode cX7_readRule 109 = .ok (.aload_n 0, 1) := dk_42 (dk_at dksX7_readRule_4 16 rfl rfl)
theorem dX7_readRule_110 : decode cX7_readRule 110 = .ok (.getfield 31, 3) := dk_180 0 31 (dk_at dksX7_readRule_4 17 rfl rfl)
theorem dX7_readRule_113 : decode cX7_readRule 113 = .ok (.iload_n 1, 1) := dk_27 (dk_at dksX7_readRule_4 20 rfl rfl)
theorem dX7_readRule_114 : decode cX7_readRule 114 = .ok (.iconst 3, 1) := dk_6 (dk_at dksX7_readRule_4 21 rfl rfl)
theorem dX7_readRule_115 : decode cX7_readRule 115 = .ok (.iadd, 1) := dk_96 (dk_at dksX7_readRule_4 22 rfl rfl)
theorem dX7_readRule_116 : decode cX7_readRule 116 = .ok (.aload_n 0, 1) := dk_42 (dk_at dksX7_readRule_4 23 rfl rfl)
theorem dX7_readRule_117 : decode cX7_readRule 117 = .ok (.iconst 0, 1) := dk_3 (dk_at dksX7_readRule_5 0 rfl rfl)
theorem dX7_readRule_118 : decode cX7_readRule 118 = .ok (.bipush 6, 2) := dk_16 6 (dk_at dksX7_readRule_5 1 rfl rfl)
theorem dX7_readRule_120 : decode cX7_readRule 120 = .ok (.invokevirtual 169, 3) := dk_182 0 169 (dk_at dksX7_readRule_5 3 rfl rfl)
theorem dX7_readRule_123 : decode cX7_readRule 123 = .ok (.iastore, 1) := dk_79 (dk_at dksX7_readRule_5 6 rfl rfl)
theorem dX7_readRule_124 : decode cX7_readRule 124 = .ok (.iload_n 2, 1) := dk_28 (dk_at dksX7_readRule_5 7 rfl rfl)
theorem dX7_readRule_125 : decode cX7_readRule 125 = .ok (.iconst 5, 1) := dk_8 (dk_at dksX7_readRule_5 8 rfl rfl)
theorem dX7_readRule_126 : decode cX7_readRule 126 = .ok (.if_icmp .ne 34, 3) := dk_160 0 34 (dk_at dksX7_readRule_5 9 rfl rfl)
theorem dX7_readRule_129 : decode cX7_readRule 129 = .ok (.aload_n 0, 1) := dk_42 (dk_at dksX7_readRule_5 12 rfl rfl)
theorem dX7_readRule_130 : decode cX7_readRule 130 = .ok (.getfield 31, 3) := dk_180 0 31 (dk_at dksX7_readRule_5 13 rfl rfl)
theorem dX7_readRule_133 : decode cX7_readRule 133 = .ok (.iload_n 1, 1) := dk_27 (dk_at dksX7_readRule_5 16 rfl rfl)
theorem dX7_readRule_134 : decode cX7_readRule 134 = .ok (.iconst 3, 1) := dk_6 (dk_at dksX7_readRule_5 17 rfl rfl)
theorem dX7_readRule_135 : decode cX7_readRule 135 = .ok (.iadd, 1) := dk_96 (dk_at dksX7_readRule_5 18 rfl rfl)
theorem dX7_readRule_136 : decode cX7_readRule 136 = .ok (.aload_n 0, 1) := dk_42 (dk_at dksX7_readRule_5 19 rfl rfl)
theorem dX7_readRule_137 : decode cX7_readRule 137 = .ok (.invokevirtual 184, 3) := dk_182 0 184 (dk_at dksX7_readRule_5 20 rfl rfl)
theorem dX7_readRule_140 : decode cX7_readRule 140 = .ok (.iastore, 1) := dk_79 (dk_at dksX7_readRule_5 23 rfl rfl)
theorem dX7_readRule_141 : decode cX7_readRule 141 = .ok (.aload_n 0, 1) := dk_42 (dk_at dksX7_readRule_6 0 rfl rfl)
theorem dX7_readRule_142 : decode cX7_readRule 142 = .ok (.getfield 31, 3) := dk_180 0 31 (dk_at dksX7_readRule_6 1 rfl rfl)
theorem dX7_readRule_145 : decode cX7_readRule 145 = .ok (.iload_n 1, 1) := dk_27 (dk_at dksX7_readRule_6 4 rfl rfl)
theorem dX7_readRule_146 : decode cX7_readRule 146 = .ok (.iconst 4, 1) := dk_7 (dk_at dksX7_readRule_6 5 rfl rfl)
theorem dX7_readRule_147 : decode cX7_readRule 147 = .ok (.iadd, 1) := dk_96 (dk_at dksX7_readRule_6 6 rfl rfl)
theorem dX7_readRule_148 : decode cX7_readRule 148 = .ok (.aload_n 0, 1) := dk_42 (dk_at dksX7_readRule_6 7 rfl rfl)
theorem dX7_readRule_149 : decode cX7_readRule 149 = .ok (.iconst 0, 1) := dk_3 (dk_at dksX7_readRule_6 8 rfl rfl)
theorem dX7_readRule_150 : decode cX7_readRule 150 = .ok (.aload_n 0, 1) := dk_42 (dk_at dksX7_readRule_6 9 rfl rfl)
theorem dX7_readRule_151 : decode cX7_readRule 151 = .ok (.getfield 31, 3) := dk_180 0 31 (dk_at dksX7_readRule_6 10 rfl rfl)
theorem dX7_readRule_154 : decode cX7_readRule 154 = .ok (.iconst 0, 1) := dk_3 (dk_at dksX7_readRule_6 13 rfl rfl)
theorem dX7_readRule_155 : decode cX7_readRule 155 = .ok (.iaload, 1) := dk_46 (dk_at dksX7_readRule_6 14 rfl rfl)
theorem dX7_readRule_156 : decode cX7_readRule 156 = .ok (.invokevirtual 169, 3) := dk_182 0 169 (dk_at dksX7_readRule_6 15 rfl rfl)
theorem dX7_readRule_159 : decode cX7_readRule 159 = .ok (.iastore, 1) := dk_79 (dk_at dksX7_readRule_6 18 rfl rfl)
theorem dX7_readRule_160 : decode cX7_readRule 160 = .ok (.aload_n 0, 1) := dk_42 (dk_at dksX7_readRule_6 19 rfl rfl)
theorem dX7_readRule_161 : decode cX7_readRule 161 = .ok (.getfield 31, 3) := dk_180 0 31 (dk_at dksX7_readRule_6 20 rfl rfl)
theorem dX7_readRule_164 : decode cX7_readRule 164 = .ok (.iconst 4, 1) := dk_7 (dk_at dksX7_readRule_6 23 rfl rfl)
theorem dX7_readRule_165 : decode cX7_readRule 165 = .ok (.dup2, 1) := dk_92 (dk_at dksX7_readRule_7 0 rfl rfl)
theorem dX7_readRule_166 : decode cX7_readRule 166 = .ok (.iaload, 1) := dk_46 (dk_at dksX7_readRule_7 1 rfl rfl)
theorem dX7_readRule_167 : decode cX7_readRule 167 = .ok (.iconst 1, 1) := dk_4 (dk_at dksX7_readRule_7 2 rfl rfl)
theorem dX7_readRule_168 : decode cX7_readRule 168 = .ok (.iadd, 1) := dk_96 (dk_at dksX7_readRule_7 3 rfl rfl)
theorem dX7_readRule_169 : decode cX7_readRule 169 = .ok (.iastore, 1) := dk_79 (dk_at dksX7_readRule_7 4 rfl rfl)
theorem dX7_readRule_170 : decode cX7_readRule 170 = .ok (.return_, 1) := dk_177 (dk_at dksX7_readRule_7 5 rfl rfl)
abbrev cX7_readCell : ByteArray := prog_22_method_37_code
def yX7_readCell : MethodName := ⟨RX7, "readCell", "()I"⟩
def dkwX7_readCell_0 : List UInt8 := [42, 3, 42, 180, 0, 31, 6, 46, 4, 100, 182, 0, 169, 172]
abbrev dktX7_readCell_0 : List UInt8 := dkwX7_readCell_0 ++ []
theorem dksX7_readCell_0 : cX7_readCell.data.toList.drop 0 = dktX7_readCell_0 := by decide +kernel
theorem dX7_readCell_0 : decode cX7_readCell 0 = .ok (.aload_n 0, 1) := dk_42 (dk_at dksX7_readCell_0 0 rfl rfl)
theorem dX7_readCell_1 : decode cX7_readCell 1 = .ok (.iconst 0, 1) := dk_3 (dk_at dksX7_readCell_0 1 rfl rfl)
theorem dX7_readCell_2 : decode cX7_readCell 2 = .ok (.aload_n 0, 1) := dk_42 (dk_at dksX7_readCell_0 2 rfl rfl)
theorem dX7_readCell_3 : decode cX7_readCell 3 = .ok (.getfield 31, 3) := dk_180 0 31 (dk_at dksX7_readCell_0 3 rfl rfl)
theorem dX7_readCell_6 : decode cX7_readCell 6 = .ok (.iconst 3, 1) := dk_6 (dk_at dksX7_readCell_0 6 rfl rfl)
theorem dX7_readCell_7 : decode cX7_readCell 7 = .ok (.iaload, 1) := dk_46 (dk_at dksX7_readCell_0 7 rfl rfl)
theorem dX7_readCell_8 : decode cX7_readCell 8 = .ok (.iconst 1, 1) := dk_4 (dk_at dksX7_readCell_0 8 rfl rfl)
theorem dX7_readCell_9 : decode cX7_readCell 9 = .ok (.isub, 1) := dk_100 (dk_at dksX7_readCell_0 9 rfl rfl)
theorem dX7_readCell_10 : decode cX7_readCell 10 = .ok (.invokevirtual 169, 3) := dk_182 0 169 (dk_at dksX7_readCell_0 10 rfl rfl)
theorem dX7_readCell_13 : decode cX7_readCell 13 = .ok (.ireturn, 1) := dk_172 (dk_at dksX7_readCell_0 13 rfl rfl)
abbrev cX7_readOther : ByteArray := prog_22_method_38_code
def yX7_readOther : MethodName := ⟨RX7, "readOther", "(I)I"⟩
def dkwX7_readOther_1 : List UInt8 := [5, 182, 0, 161, 42, 182, 0, 184, 172]
abbrev dktX7_readOther_1 : List UInt8 := dkwX7_readOther_1 ++ []
def dkwX7_readOther_0 : List UInt8 := [42, 182, 0, 139, 153, 0, 24, 42, 180, 0, 115, 5, 160, 0, 16, 42, 180, 0, 126, 27, 160, 0, 8, 42]
abbrev dktX7_readOther_0 : List UInt8 := dkwX7_readOther_0 ++ dktX7_readOther_1
theorem dksX7_readOther_0 : cX7_readOther.data.toList.drop 0 = dktX7_readOther_0 := by decide +kernel
theorem dksX7_readOther_1 : cX7_readOther.data.toList.drop 24 = dktX7_readOther_1 := dk_seg dksX7_readOther_0 24 rfl rfl
theorem dX7_readOther_0 : decode cX7_readOther 0 = .ok (.aload_n 0, 1) := dk_42 (dk_at dksX7_readOther_0 0 rfl rfl)
theorem dX7_readOther_1 : decode cX7_readOther 1 = .ok (.invokevirtual 139, 3) := dk_182 0 139 (dk_at dksX7_readOther_0 1 rfl rfl)
theorem dX7_readOther_4 : decode cX7_readOther 4 = .ok (.ifCond .eq 24, 3) := dk_153 0 24 (dk_at dksX7_readOther_0 4 rfl rfl)
theorem dX7_readOther_7 : decode cX7_readOther 7 = .ok (.aload_n 0, 1) := dk_42 (dk_at dksX7_readOther_0 7 rfl rfl)
theorem dX7_readOther_8 : decode cX7_readOther 8 = .ok (.getfield 115, 3) := dk_180 0 115 (dk_at dksX7_readOther_0 8 rfl rfl)
theorem dX7_readOther_11 : decode cX7_readOther 11 = .ok (.iconst 2, 1) := dk_5 (dk_at dksX7_readOther_0 11 rfl rfl)
theorem dX7_readOther_12 : decode cX7_readOther 12 = .ok (.if_icmp .ne 16, 3) := dk_160 0 16 (dk_at dksX7_readOther_0 12 rfl rfl)
theorem dX7_readOther_15 : decode cX7_readOther 15 = .ok (.aload_n 0, 1) := dk_42 (dk_at dksX7_readOther_0 15 rfl rfl)
theorem dX7_readOther_16 : decode cX7_readOther 16 = .ok (.getfield 126, 3) := dk_180 0 126 (dk_at dksX7_readOther_0 16 rfl rfl)
theorem dX7_readOther_19 : decode cX7_readOther 19 = .ok (.iload_n 1, 1) := dk_27 (dk_at dksX7_readOther_0 19 rfl rfl)
theorem dX7_readOther_20 : decode cX7_readOther 20 = .ok (.if_icmp .ne 8, 3) := dk_160 0 8 (dk_at dksX7_readOther_0 20 rfl rfl)
theorem dX7_readOther_23 : decode cX7_readOther 23 = .ok (.aload_n 0, 1) := dk_42 (dk_at dksX7_readOther_0 23 rfl rfl)
theorem dX7_readOther_24 : decode cX7_readOther 24 = .ok (.iconst 2, 1) := dk_5 (dk_at dksX7_readOther_1 0 rfl rfl)
theorem dX7_readOther_25 : decode cX7_readOther 25 = .ok (.invokevirtual 161, 3) := dk_182 0 161 (dk_at dksX7_readOther_1 1 rfl rfl)
theorem dX7_readOther_28 : decode cX7_readOther 28 = .ok (.aload_n 0, 1) := dk_42 (dk_at dksX7_readOther_1 4 rfl rfl)
theorem dX7_readOther_29 : decode cX7_readOther 29 = .ok (.invokevirtual 184, 3) := dk_182 0 184 (dk_at dksX7_readOther_1 5 rfl rfl)
theorem dX7_readOther_32 : decode cX7_readOther 32 = .ok (.ireturn, 1) := dk_172 (dk_at dksX7_readOther_1 8 rfl rfl)
abbrev cX7_readOp : ByteArray := prog_22_method_42_code
def yX7_readOp : MethodName := ⟨RX7, "readOp", "()V"⟩
def dkwX7_readOp_5 : List UInt8 := [180, 0, 31, 3, 46, 182, 0, 169, 79, 42, 180, 0, 31, 8, 92, 46, 4, 96, 79, 177]
abbrev dktX7_readOp_5 : List UInt8 := dkwX7_readOp_5 ++ []
def dkwX7_readOp_4 : List UInt8 := [167, 0, 31, 42, 180, 0, 31, 27, 5, 96, 42, 28, 5, 160, 0, 7, 3, 167, 0, 4, 4, 42]
abbrev dktX7_readOp_4 : List UInt8 := dkwX7_readOp_4 ++ dktX7_readOp_5
def dkwX7_readOp_3 : List UInt8 := [182, 0, 209, 79, 42, 180, 0, 31, 27, 6, 96, 42, 4, 42, 180, 0, 31, 3, 46, 182, 0, 169, 79]
abbrev dktX7_readOp_3 : List UInt8 := dkwX7_readOp_3 ++ dktX7_readOp_4
def dkwX7_readOp_2 : List UInt8 := [79, 28, 6, 160, 0, 45, 42, 180, 0, 31, 27, 5, 96, 42, 42, 180, 0, 31, 27, 4, 96, 46]
abbrev dktX7_readOp_2 : List UInt8 := dkwX7_readOp_2 ++ dktX7_readOp_3
def dkwX7_readOp_1 : List UInt8 := [18, 220, 182, 0, 206, 61, 42, 180, 0, 31, 27, 28, 79, 42, 180, 0, 31, 27, 4, 96, 42, 182, 0, 184]
abbrev dktX7_readOp_1 : List UInt8 := dkwX7_readOp_1 ++ dktX7_readOp_2
def dkwX7_readOp_0 : List UInt8 := [16, 36, 7, 42, 180, 0, 31, 8, 46, 104, 96, 60, 42, 18, 212, 18, 214, 18, 216, 18, 218, 18, 220]
abbrev dktX7_readOp_0 : List UInt8 := dkwX7_readOp_0 ++ dktX7_readOp_1
theorem dksX7_readOp_0 : cX7_readOp.data.toList.drop 0 = dktX7_readOp_0 := by decide +kernel
theorem dksX7_readOp_1 : cX7_readOp.data.toList.drop 23 = dktX7_readOp_1 := dk_seg dksX7_readOp_0 23 rfl rfl
theorem dksX7_readOp_2 : cX7_readOp.data.toList.drop 47 = dktX7_readOp_2 := dk_seg dksX7_readOp_1 24 rfl rfl
theorem dksX7_readOp_3 : cX7_readOp.data.toList.drop 69 = dktX7_readOp_3 := dk_seg dksX7_readOp_2 22 rfl rfl
theorem dksX7_readOp_4 : cX7_readOp.data.toList.drop 92 = dktX7_readOp_4 := dk_seg dksX7_readOp_3 23 rfl rfl
theorem dksX7_readOp_5 : cX7_readOp.data.toList.drop 114 = dktX7_readOp_5 := dk_seg dksX7_readOp_4 22 rfl rfl
theorem dX7_readOp_0 : decode cX7_readOp 0 = .ok (.bipush 36, 2) := dk_16 36 (dk_at dksX7_readOp_0 0 rfl rfl)
theorem dX7_readOp_2 : decode cX7_readOp 2 = .ok (.iconst 4, 1) := dk_7 (dk_at dksX7_readOp_0 2 rfl rfl)
theorem dX7_readOp_3 : decode cX7_readOp 3 = .ok (.aload_n 0, 1) := dk_42 (dk_at dksX7_readOp_0 3 rfl rfl)
theorem dX7_readOp_4 : decode cX7_readOp 4 = .ok (.getfield 31, 3) := dk_180 0 31 (dk_at dksX7_readOp_0 4 rfl rfl)
theorem dX7_readOp_7 : decode cX7_readOp 7 = .ok (.iconst 5, 1) := dk_8 (dk_at dksX7_readOp_0 7 rfl rfl)
theorem dX7_readOp_8 : decode cX7_readOp 8 = .ok (.iaload, 1) := dk_46 (dk_at dksX7_readOp_0 8 rfl rfl)
theorem dX7_readOp_9 : decode cX7_readOp 9 = .ok (.imul, 1) := dk_104 (dk_at dksX7_readOp_0 9 rfl rfl)
theorem dX7_readOp_10 : decode cX7_readOp 10 = .ok (.iadd, 1) := dk_96 (dk_at dksX7_readOp_0 10 rfl rfl)
theorem dX7_readOp_11 : decode cX7_readOp 11 = .ok (.istore_n 1, 1) := dk_60 (dk_at dksX7_readOp_0 11 rfl rfl)
theorem dX7_readOp_12 : decode cX7_readOp 12 = .ok (.aload_n 0, 1) := dk_42 (dk_at dksX7_readOp_0 12 rfl rfl)
theorem dX7_readOp_13 : decode cX7_readOp 13 = .ok (.ldc 212, 2) := dk_18 212 (dk_at dksX7_readOp_0 13 rfl rfl)
theorem dX7_readOp_15 : decode cX7_readOp 15 = .ok (.ldc 214, 2) := dk_18 214 (dk_at dksX7_readOp_0 15 rfl rfl)
theorem dX7_readOp_17 : decode cX7_readOp 17 = .ok (.ldc 216, 2) := dk_18 216 (dk_at dksX7_readOp_0 17 rfl rfl)
theorem dX7_readOp_19 : decode cX7_readOp 19 = .ok (.ldc 218, 2) := dk_18 218 (dk_at dksX7_readOp_0 19 rfl rfl)
theorem dX7_readOp_21 : decode cX7_readOp 21 = .ok (.ldc 220, 2) := dk_18 220 (dk_at dksX7_readOp_0 21 rfl rfl)
theorem dX7_readOp_23 : decode cX7_readOp 23 = .ok (.ldc 220, 2) := dk_18 220 (dk_at dksX7_readOp_1 0 rfl rfl)
theorem dX7_readOp_25 : decode cX7_readOp 25 = .ok (.invokevirtual 206, 3) := dk_182 0 206 (dk_at dksX7_readOp_1 2 rfl rfl)
theorem dX7_readOp_28 : decode cX7_readOp 28 = .ok (.istore_n 2, 1) := dk_61 (dk_at dksX7_readOp_1 5 rfl rfl)
theorem dX7_readOp_29 : decode cX7_readOp 29 = .ok (.aload_n 0, 1) := dk_42 (dk_at dksX7_readOp_1 6 rfl rfl)
theorem dX7_readOp_30 : decode cX7_readOp 30 = .ok (.getfield 31, 3) := dk_180 0 31 (dk_at dksX7_readOp_1 7 rfl rfl)
theorem dX7_readOp_33 : decode cX7_readOp 33 = .ok (.iload_n 1, 1) := dk_27 (dk_at dksX7_readOp_1 10 rfl rfl)
theorem dX7_readOp_34 : decode cX7_readOp 34 = .ok (.iload_n 2, 1) := dk_28 (dk_at dksX7_readOp_1 11 rfl rfl)
theorem dX7_readOp_35 : decode cX7_readOp 35 = .ok (.iastore, 1) := dk_79 (dk_at dksX7_readOp_1 12 rfl rfl)
theorem dX7_readOp_36 : decode cX7_readOp 36 = .ok (.aload_n 0, 1) := dk_42 (dk_at dksX7_readOp_1 13 rfl rfl)
theorem dX7_readOp_37 : decode cX7_readOp 37 = .ok (.getfield 31, 3) := dk_180 0 31 (dk_at dksX7_readOp_1 14 rfl rfl)
theorem dX7_readOp_40 : decode cX7_readOp 40 = .ok (.iload_n 1, 1) := dk_27 (dk_at dksX7_readOp_1 17 rfl rfl)
theorem dX7_readOp_41 : decode cX7_readOp 41 = .ok (.iconst 1, 1) := dk_4 (dk_at dksX7_readOp_1 18 rfl rfl)
theorem dX7_readOp_42 : decode cX7_readOp 42 = .ok (.iadd, 1) := dk_96 (dk_at dksX7_readOp_1 19 rfl rfl)
theorem dX7_readOp_43 : decode cX7_readOp 43 = .ok (.aload_n 0, 1) := dk_42 (dk_at dksX7_readOp_1 20 rfl rfl)
theorem dX7_readOp_44 : decode cX7_readOp 44 = .ok (.invokevirtual 184, 3) := dk_182 0 184 (dk_at dksX7_readOp_1 21 rfl rfl)
theorem dX7_readOp_47 : decode cX7_readOp 47 = .ok (.iastore, 1) := dk_79 (dk_at dksX7_readOp_2 0 rfl rfl)
theorem dX7_readOp_48 : decode cX7_readOp 48 = .ok (.iload_n 2, 1) := dk_28 (dk_at dksX7_readOp_2 1 rfl rfl)
theorem dX7_readOp_49 : decode cX7_readOp 49 = .ok (.iconst 3, 1) := dk_6 (dk_at dksX7_readOp_2 2 rfl rfl)
theorem dX7_readOp_50 : decode cX7_readOp 50 = .ok (.if_icmp .ne 45, 3) := dk_160 0 45 (dk_at dksX7_readOp_2 3 rfl rfl)
theorem dX7_readOp_53 : decode cX7_readOp 53 = .ok (.aload_n 0, 1) := dk_42 (dk_at dksX7_readOp_2 6 rfl rfl)
theorem dX7_readOp_54 : decode cX7_readOp 54 = .ok (.getfield 31, 3) := dk_180 0 31 (dk_at dksX7_readOp_2 7 rfl rfl)
theorem dX7_readOp_57 : decode cX7_readOp 57 = .ok (.iload_n 1, 1) := dk_27 (dk_at dksX7_readOp_2 10 rfl rfl)
theorem dX7_readOp_58 : decode cX7_readOp 58 = .ok (.iconst 2, 1) := dk_5 (dk_at dksX7_readOp_2 11 rfl rfl)
theorem dX7_readOp_59 : decode cX7_readOp 59 = .ok (.iadd, 1) := dk_96 (dk_at dksX7_readOp_2 12 rfl rfl)
theorem dX7_readOp_60 : decode cX7_readOp 60 = .ok (.aload_n 0, 1) := dk_42 (dk_at dksX7_readOp_2 13 rfl rfl)
theorem dX7_readOp_61 : decode cX7_readOp 61 = .ok (.aload_n 0, 1) := dk_42 (dk_at dksX7_readOp_2 14 rfl rfl)
theorem dX7_readOp_62 : decode cX7_readOp 62 = .ok (.getfield 31, 3) := dk_180 0 31 (dk_at dksX7_readOp_2 15 rfl rfl)
theorem dX7_readOp_65 : decode cX7_readOp 65 = .ok (.iload_n 1, 1) := dk_27 (dk_at dksX7_readOp_2 18 rfl rfl)
theorem dX7_readOp_66 : decode cX7_readOp 66 = .ok (.iconst 1, 1) := dk_4 (dk_at dksX7_readOp_2 19 rfl rfl)
theorem dX7_readOp_67 : decode cX7_readOp 67 = .ok (.iadd, 1) := dk_96 (dk_at dksX7_readOp_2 20 rfl rfl)
theorem dX7_readOp_68 : decode cX7_readOp 68 = .ok (.iaload, 1) := dk_46 (dk_at dksX7_readOp_2 21 rfl rfl)
theorem dX7_readOp_69 : decode cX7_readOp 69 = .ok (.invokevirtual 209, 3) := dk_182 0 209 (dk_at dksX7_readOp_3 0 rfl rfl)
theorem dX7_readOp_72 : decode cX7_readOp 72 = .ok (.iastore, 1) := dk_79 (dk_at dksX7_readOp_3 3 rfl rfl)
theorem dX7_readOp_73 : decode cX7_readOp 73 = .ok (.aload_n 0, 1) := dk_42 (dk_at dksX7_readOp_3 4 rfl rfl)
theorem dX7_readOp_74 : decode cX7_readOp 74 = .ok (.getfield 31, 3) := dk_180 0 31 (dk_at dksX7_readOp_3 5 rfl rfl)
theorem dX7_readOp_77 : decode cX7_readOp 77 = .ok (.iload_n 1, 1) := dk_27 (dk_at dksX7_readOp_3 8 rfl rfl)
theorem dX7_readOp_78 : decode cX7_readOp 78 = .ok (.iconst 3, 1) := dk_6 (dk_at dksX7_readOp_3 9 rfl rfl)
theorem dX7_readOp_79 : decode cX7_readOp 79 = .ok (.iadd, 1) := dk_96 (dk_at dksX7_readOp_3 10 rfl rfl)
theorem dX7_readOp_80 : decode cX7_readOp 80 = .ok (.aload_n 0, 1) := dk_42 (dk_at dksX7_readOp_3 11 rfl rfl)
theorem dX7_readOp_81 : decode cX7_readOp 81 = .ok (.iconst 1, 1) := dk_4 (dk_at dksX7_readOp_3 12 rfl rfl)
theorem dX7_readOp_82 : decode cX7_readOp 82 = .ok (.aload_n 0, 1) := dk_42 (dk_at dksX7_readOp_3 13 rfl rfl)
theorem dX7_readOp_83 : decode cX7_readOp 83 = .ok (.getfield 31, 3) := dk_180 0 31 (dk_at dksX7_readOp_3 14 rfl rfl)
theorem dX7_readOp_86 : decode cX7_readOp 86 = .ok (.iconst 0, 1) := dk_3 (dk_at dksX7_readOp_3 17 rfl rfl)
theorem dX7_readOp_87 : decode cX7_readOp 87 = .ok (.iaload, 1) := dk_46 (dk_at dksX7_readOp_3 18 rfl rfl)
theorem dX7_readOp_88 : decode cX7_readOp 88 = .ok (.invokevirtual 169, 3) := dk_182 0 169 (dk_at dksX7_readOp_3 19 rfl rfl)
theorem dX7_readOp_91 : decode cX7_readOp 91 = .ok (.iastore, 1) := dk_79 (dk_at dksX7_readOp_3 22 rfl rfl)
theorem dX7_readOp_92 : decode cX7_readOp 92 = .ok (.goto 31, 3) := dk_167 0 31 (dk_at dksX7_readOp_4 0 rfl rfl)
theorem dX7_readOp_95 : decode cX7_readOp 95 = .ok (.aload_n 0, 1) := dk_42 (dk_at dksX7_readOp_4 3 rfl rfl)
theorem dX7_readOp_96 : decode cX7_readOp 96 = .ok (.getfield 31, 3) := dk_180 0 31 (dk_at dksX7_readOp_4 4 rfl rfl)
theorem dX7_readOp_99 : decode cX7_readOp 99 = .ok (.iload_n 1, 1) := dk_27 (dk_at dksX7_readOp_4 7 rfl rfl)
theorem dX7_readOp_100 : decode cX7_readOp 100 = .ok (.iconst 2, 1) := dk_5 (dk_at dksX7_readOp_4 8 rfl rfl)
theorem dX7_readOp_101 : decode cX7_readOp 101 = .ok (.iadd, 1) := dk_96 (dk_at dksX7_readOp_4 9 rfl rfl)
theorem dX7_readOp_102 : decode cX7_readOp 102 = .ok (.aload_n 0, 1) := dk_42 (dk_at dksX7_readOp_4 10 rfl rfl)
theorem dX7_readOp_103 : decode cX7_readOp 103 = .ok (.iload_n 2, 1) := dk_28 (dk_at dksX7_readOp_4 11 rfl rfl)
theorem dX7_readOp_104 : decode cX7_readOp 104 = .ok (.iconst 2, 1) := dk_5 (dk_at dksX7_readOp_4 12 rfl rfl)
theorem dX7_readOp_105 : decode cX7_readOp 105 = .ok (.if_icmp .ne 7, 3) := dk_160 0 7 (dk_at dksX7_readOp_4 13 rfl rfl)
theorem dX7_readOp_108 : decode cX7_readOp 108 = .ok (.iconst 0, 1) := dk_3 (dk_at dksX7_readOp_4 16 rfl rfl)
theorem dX7_readOp_109 : decode cX7_readOp 109 = .ok (.goto 4, 3) := dk_167 0 4 (dk_at dksX7_readOp_4 17 rfl rfl)
theorem dX7_readOp_112 : decode cX7_readOp 112 = .ok (.iconst 1, 1) := dk_4 (dk_at dksX7_readOp_4 20 rfl rfl)
theorem dX7_readOp_113 : decode cX7_readOp 113 = .ok (.aload_n 0, 1) := dk_42 (dk_at dksX7_readOp_4 21 rfl rfl)
theorem dX7_readOp_114 : decode cX7_readOp 114 = .ok (.getfield 31, 3) := dk_180 0 31 (dk_at dksX7_readOp_5 0 rfl rfl)
theorem dX7_readOp_117 : decode cX7_readOp 117 = .ok (.iconst 0, 1) := dk_3 (dk_at dksX7_readOp_5 3 rfl rfl)
theorem dX7_readOp_118 : decode cX7_readOp 118 = .ok (.iaload, 1) := dk_46 (dk_at dksX7_readOp_5 4 rfl rfl)
theorem dX7_readOp_119 : decode cX7_readOp 119 = .ok (.invokevirtual 169, 3) := dk_182 0 169 (dk_at dksX7_readOp_5 5 rfl rfl)
theorem dX7_readOp_122 : decode cX7_readOp 122 = .ok (.iastore, 1) := dk_79 (dk_at dksX7_readOp_5 8 rfl rfl)
theorem dX7_readOp_123 : decode cX7_readOp 123 = .ok (.aload_n 0, 1) := dk_42 (dk_at dksX7_readOp_5 9 rfl rfl)
theorem dX7_readOp_124 : decode cX7_readOp 124 = .ok (.getfield 31, 3) := dk_180 0 31 (dk_at dksX7_readOp_5 10 rfl rfl)
theorem dX7_readOp_127 : decode cX7_readOp 127 = .ok (.iconst 5, 1) := dk_8 (dk_at dksX7_readOp_5 13 rfl rfl)
theorem dX7_readOp_128 : decode cX7_readOp 128 = .ok (.dup2, 1) := dk_92 (dk_at dksX7_readOp_5 14 rfl rfl)
theorem dX7_readOp_129 : decode cX7_readOp 129 = .ok (.iaload, 1) := dk_46 (dk_at dksX7_readOp_5 15 rfl rfl)
theorem dX7_readOp_130 : decode cX7_readOp 130 = .ok (.iconst 1, 1) := dk_4 (dk_at dksX7_readOp_5 16 rfl rfl)
theorem dX7_readOp_131 : decode cX7_readOp 131 = .ok (.iadd, 1) := dk_96 (dk_at dksX7_readOp_5 17 rfl rfl)
theorem dX7_readOp_132 : decode cX7_readOp 132 = .ok (.iastore, 1) := dk_79 (dk_at dksX7_readOp_5 18 rfl rfl)
theorem dX7_readOp_133 : decode cX7_readOp 133 = .ok (.return_, 1) := dk_177 (dk_at dksX7_readOp_5 19 rfl rfl)
abbrev cX7_cell : ByteArray := prog_22_method_47_code
def yX7_cell : MethodName := ⟨RX7, "cell", "(I)I"⟩
def dkwX7_cell_0 : List UInt8 := [42, 27, 182, 0, 252, 153, 0, 15, 42, 180, 0, 9, 16, 8, 27, 96, 46, 167, 0, 5, 16, 254, 172]
abbrev dktX7_cell_0 : List UInt8 := dkwX7_cell_0 ++ []
theorem dksX7_cell_0 : cX7_cell.data.toList.drop 0 = dktX7_cell_0 := by decide +kernel
theorem dX7_cell_0 : decode cX7_cell 0 = .ok (.aload_n 0, 1) := dk_42 (dk_at dksX7_cell_0 0 rfl rfl)
theorem dX7_cell_1 : decode cX7_cell 1 = .ok (.iload_n 1, 1) := dk_27 (dk_at dksX7_cell_0 1 rfl rfl)
theorem dX7_cell_2 : decode cX7_cell 2 = .ok (.invokevirtual 252, 3) := dk_182 0 252 (dk_at dksX7_cell_0 2 rfl rfl)
theorem dX7_cell_5 : decode cX7_cell 5 = .ok (.ifCond .eq 15, 3) := dk_153 0 15 (dk_at dksX7_cell_0 5 rfl rfl)
theorem dX7_cell_8 : decode cX7_cell 8 = .ok (.aload_n 0, 1) := dk_42 (dk_at dksX7_cell_0 8 rfl rfl)
theorem dX7_cell_9 : decode cX7_cell 9 = .ok (.getfield 9, 3) := dk_180 0 9 (dk_at dksX7_cell_0 9 rfl rfl)
theorem dX7_cell_12 : decode cX7_cell 12 = .ok (.bipush 8, 2) := dk_16 8 (dk_at dksX7_cell_0 12 rfl rfl)
theorem dX7_cell_14 : decode cX7_cell 14 = .ok (.iload_n 1, 1) := dk_27 (dk_at dksX7_cell_0 14 rfl rfl)
theorem dX7_cell_15 : decode cX7_cell 15 = .ok (.iadd, 1) := dk_96 (dk_at dksX7_cell_0 15 rfl rfl)
theorem dX7_cell_16 : decode cX7_cell 16 = .ok (.iaload, 1) := dk_46 (dk_at dksX7_cell_0 16 rfl rfl)
theorem dX7_cell_17 : decode cX7_cell 17 = .ok (.goto 5, 3) := dk_167 0 5 (dk_at dksX7_cell_0 17 rfl rfl)
theorem dX7_cell_20 : decode cX7_cell 20 = .ok (.bipush (-2), 2) := dk_16 254 (dk_at dksX7_cell_0 20 rfl rfl)
theorem dX7_cell_22 : decode cX7_cell 22 = .ok (.ireturn, 1) := dk_172 (dk_at dksX7_cell_0 22 rfl rfl)
abbrev cX7_isCell : ByteArray := prog_22_method_14_code
def yX7_isCell : MethodName := ⟨RX7, "isCell", "(I)Z"⟩
def dkwX7_isCell_0 : List UInt8 := [27, 133, 9, 42, 182, 0, 87, 4, 100, 133, 184, 0, 76, 172]
abbrev dktX7_isCell_0 : List UInt8 := dkwX7_isCell_0 ++ []
theorem dksX7_isCell_0 : cX7_isCell.data.toList.drop 0 = dktX7_isCell_0 := by decide +kernel
theorem dX7_isCell_0 : decode cX7_isCell 0 = .ok (.iload_n 1, 1) := dk_27 (dk_at dksX7_isCell_0 0 rfl rfl)
theorem dX7_isCell_1 : decode cX7_isCell 1 = .ok (.i2l, 1) := dk_133 (dk_at dksX7_isCell_0 1 rfl rfl)
theorem dX7_isCell_2 : decode cX7_isCell 2 = .ok (.lconst 0, 1) := dk_9 (dk_at dksX7_isCell_0 2 rfl rfl)
theorem dX7_isCell_3 : decode cX7_isCell 3 = .ok (.aload_n 0, 1) := dk_42 (dk_at dksX7_isCell_0 3 rfl rfl)
theorem dX7_isCell_4 : decode cX7_isCell 4 = .ok (.invokevirtual 87, 3) := dk_182 0 87 (dk_at dksX7_isCell_0 4 rfl rfl)
theorem dX7_isCell_7 : decode cX7_isCell 7 = .ok (.iconst 1, 1) := dk_4 (dk_at dksX7_isCell_0 7 rfl rfl)
theorem dX7_isCell_8 : decode cX7_isCell 8 = .ok (.isub, 1) := dk_100 (dk_at dksX7_isCell_0 8 rfl rfl)
theorem dX7_isCell_9 : decode cX7_isCell 9 = .ok (.i2l, 1) := dk_133 (dk_at dksX7_isCell_0 9 rfl rfl)
theorem dX7_isCell_10 : decode cX7_isCell 10 = .ok (.invokestatic 76, 3) := dk_184 0 76 (dk_at dksX7_isCell_0 10 rfl rfl)
theorem dX7_isCell_13 : decode cX7_isCell 13 = .ok (.ireturn, 1) := dk_172 (dk_at dksX7_isCell_0 13 rfl rfl)
abbrev cX7_cells : ByteArray := prog_22_method_9_code
def yX7_cells : MethodName := ⟨RX7, "cells", "()I"⟩
def dkwX7_cells_0 : List UInt8 := [42, 180, 0, 9, 6, 46, 172]
abbrev dktX7_cells_0 : List UInt8 := dkwX7_cells_0 ++ []
theorem dksX7_cells_0 : cX7_cells.data.toList.drop 0 = dktX7_cells_0 := by decide +kernel
theorem dX7_cells_0 : decode cX7_cells 0 = .ok (.aload_n 0, 1) := dk_42 (dk_at dksX7_cells_0 0 rfl rfl)
theorem dX7_cells_1 : decode cX7_cells 1 = .ok (.getfield 9, 3) := dk_180 0 9 (dk_at dksX7_cells_0 1 rfl rfl)
theorem dX7_cells_4 : decode cX7_cells 4 = .ok (.iconst 3, 1) := dk_6 (dk_at dksX7_cells_0 4 rfl rfl)
theorem dX7_cells_5 : decode cX7_cells 5 = .ok (.iaload, 1) := dk_46 (dk_at dksX7_cells_0 5 rfl rfl)
theorem dX7_cells_6 : decode cX7_cells 6 = .ok (.ireturn, 1) := dk_172 (dk_at dksX7_cells_0 6 rfl rfl)
abbrev cX7_rule : ByteArray := prog_22_method_48_code
def yX7_rule : MethodName := ⟨RX7, "rule", "(II)I"⟩
def dkwX7_rule_1 : List UInt8 := [42, 27, 3, 182, 1, 5, 184, 1, 8, 163, 0, 12, 42, 27, 28, 182, 1, 5, 167, 0, 4, 2, 172]
abbrev dktX7_rule_1 : List UInt8 := dkwX7_rule_1 ++ []
def dkwX7_rule_0 : List UInt8 := [42, 27, 182, 1, 0, 153, 0, 15, 28, 133, 9, 20, 1, 3, 184, 0, 76, 154, 0, 6, 16, 254, 172, 28]
abbrev dktX7_rule_0 : List UInt8 := dkwX7_rule_0 ++ dktX7_rule_1
theorem dksX7_rule_0 : cX7_rule.data.toList.drop 0 = dktX7_rule_0 := by decide +kernel
theorem dksX7_rule_1 : cX7_rule.data.toList.drop 24 = dktX7_rule_1 := dk_seg dksX7_rule_0 24 rfl rfl
theorem dX7_rule_0 : decode cX7_rule 0 = .ok (.aload_n 0, 1) := dk_42 (dk_at dksX7_rule_0 0 rfl rfl)
theorem dX7_rule_1 : decode cX7_rule 1 = .ok (.iload_n 1, 1) := dk_27 (dk_at dksX7_rule_0 1 rfl rfl)
theorem dX7_rule_2 : decode cX7_rule 2 = .ok (.invokevirtual 256, 3) := dk_182 1 0 (dk_at dksX7_rule_0 2 rfl rfl)
theorem dX7_rule_5 : decode cX7_rule 5 = .ok (.ifCond .eq 15, 3) := dk_153 0 15 (dk_at dksX7_rule_0 5 rfl rfl)
theorem dX7_rule_8 : decode cX7_rule 8 = .ok (.iload_n 2, 1) := dk_28 (dk_at dksX7_rule_0 8 rfl rfl)
theorem dX7_rule_9 : decode cX7_rule 9 = .ok (.i2l, 1) := dk_133 (dk_at dksX7_rule_0 9 rfl rfl)
theorem dX7_rule_10 : decode cX7_rule 10 = .ok (.lconst 0, 1) := dk_9 (dk_at dksX7_rule_0 10 rfl rfl)
theorem dX7_rule_11 : decode cX7_rule 11 = .ok (.ldc2_w 259, 3) := dk_20 1 3 (dk_at dksX7_rule_0 11 rfl rfl)
theorem dX7_rule_14 : decode cX7_rule 14 = .ok (.invokestatic 76, 3) := dk_184 0 76 (dk_at dksX7_rule_0 14 rfl rfl)
theorem dX7_rule_17 : decode cX7_rule 17 = .ok (.ifCond .ne 6, 3) := dk_154 0 6 (dk_at dksX7_rule_0 17 rfl rfl)
theorem dX7_rule_20 : decode cX7_rule 20 = .ok (.bipush (-2), 2) := dk_16 254 (dk_at dksX7_rule_0 20 rfl rfl)
theorem dX7_rule_22 : decode cX7_rule 22 = .ok (.ireturn, 1) := dk_172 (dk_at dksX7_rule_0 22 rfl rfl)
theorem dX7_rule_23 : decode cX7_rule 23 = .ok (.iload_n 2, 1) := dk_28 (dk_at dksX7_rule_0 23 rfl rfl)
theorem dX7_rule_24 : decode cX7_rule 24 = .ok (.aload_n 0, 1) := dk_42 (dk_at dksX7_rule_1 0 rfl rfl)
theorem dX7_rule_25 : decode cX7_rule 25 = .ok (.iload_n 1, 1) := dk_27 (dk_at dksX7_rule_1 1 rfl rfl)
theorem dX7_rule_26 : decode cX7_rule 26 = .ok (.iconst 0, 1) := dk_3 (dk_at dksX7_rule_1 2 rfl rfl)
theorem dX7_rule_27 : decode cX7_rule 27 = .ok (.invokevirtual 261, 3) := dk_182 1 5 (dk_at dksX7_rule_1 3 rfl rfl)
theorem dX7_rule_30 : decode cX7_rule 30 = .ok (.invokestatic 264, 3) := dk_184 1 8 (dk_at dksX7_rule_1 6 rfl rfl)
theorem dX7_rule_33 : decode cX7_rule 33 = .ok (.if_icmp .gt 12, 3) := dk_163 0 12 (dk_at dksX7_rule_1 9 rfl rfl)
theorem dX7_rule_36 : decode cX7_rule 36 = .ok (.aload_n 0, 1) := dk_42 (dk_at dksX7_rule_1 12 rfl rfl)
theorem dX7_rule_37 : decode cX7_rule 37 = .ok (.iload_n 1, 1) := dk_27 (dk_at dksX7_rule_1 13 rfl rfl)
theorem dX7_rule_38 : decode cX7_rule 38 = .ok (.iload_n 2, 1) := dk_28 (dk_at dksX7_rule_1 14 rfl rfl)
theorem dX7_rule_39 : decode cX7_rule 39 = .ok (.invokevirtual 261, 3) := dk_182 1 5 (dk_at dksX7_rule_1 15 rfl rfl)
theorem dX7_rule_42 : decode cX7_rule 42 = .ok (.goto 4, 3) := dk_167 0 4 (dk_at dksX7_rule_1 18 rfl rfl)
theorem dX7_rule_45 : decode cX7_rule 45 = .ok (.iconst (-1), 1) := dk_2 (dk_at dksX7_rule_1 21 rfl rfl)
theorem dX7_rule_46 : decode cX7_rule 46 = .ok (.ireturn, 1) := dk_172 (dk_at dksX7_rule_1 22 rfl rfl)
abbrev cX7_isRule : ByteArray := prog_22_method_15_code
def yX7_isRule : MethodName := ⟨RX7, "isRule", "(I)Z"⟩
def dkwX7_isRule_0 : List UInt8 := [27, 133, 9, 42, 182, 0, 80, 4, 100, 133, 184, 0, 76, 172]
abbrev dktX7_isRule_0 : List UInt8 := dkwX7_isRule_0 ++ []
theorem dksX7_isRule_0 : cX7_isRule.data.toList.drop 0 = dktX7_isRule_0 := by decide +kernel
theorem dX7_isRule_0 : decode cX7_isRule 0 = .ok (.iload_n 1, 1) := dk_27 (dk_at dksX7_isRule_0 0 rfl rfl)
theorem dX7_isRule_1 : decode cX7_isRule 1 = .ok (.i2l, 1) := dk_133 (dk_at dksX7_isRule_0 1 rfl rfl)
theorem dX7_isRule_2 : decode cX7_isRule 2 = .ok (.lconst 0, 1) := dk_9 (dk_at dksX7_isRule_0 2 rfl rfl)
theorem dX7_isRule_3 : decode cX7_isRule 3 = .ok (.aload_n 0, 1) := dk_42 (dk_at dksX7_isRule_0 3 rfl rfl)
theorem dX7_isRule_4 : decode cX7_isRule 4 = .ok (.invokevirtual 80, 3) := dk_182 0 80 (dk_at dksX7_isRule_0 4 rfl rfl)
theorem dX7_isRule_7 : decode cX7_isRule 7 = .ok (.iconst 1, 1) := dk_4 (dk_at dksX7_isRule_0 7 rfl rfl)
theorem dX7_isRule_8 : decode cX7_isRule 8 = .ok (.isub, 1) := dk_100 (dk_at dksX7_isRule_0 8 rfl rfl)
theorem dX7_isRule_9 : decode cX7_isRule 9 = .ok (.i2l, 1) := dk_133 (dk_at dksX7_isRule_0 9 rfl rfl)
theorem dX7_isRule_10 : decode cX7_isRule 10 = .ok (.invokestatic 76, 3) := dk_184 0 76 (dk_at dksX7_isRule_0 10 rfl rfl)
theorem dX7_isRule_13 : decode cX7_isRule 13 = .ok (.ireturn, 1) := dk_172 (dk_at dksX7_isRule_0 13 rfl rfl)
abbrev cX7_rules : ByteArray := prog_22_method_10_code
def yX7_rules : MethodName := ⟨RX7, "rules", "()I"⟩
def dkwX7_rules_0 : List UInt8 := [42, 180, 0, 9, 7, 46, 172]
abbrev dktX7_rules_0 : List UInt8 := dkwX7_rules_0 ++ []
theorem dksX7_rules_0 : cX7_rules.data.toList.drop 0 = dktX7_rules_0 := by decide +kernel
theorem dX7_rules_0 : decode cX7_rules 0 = .ok (.aload_n 0, 1) := dk_42 (dk_at dksX7_rules_0 0 rfl rfl)
theorem dX7_rules_1 : decode cX7_rules 1 = .ok (.getfield 9, 3) := dk_180 0 9 (dk_at dksX7_rules_0 1 rfl rfl)
theorem dX7_rules_4 : decode cX7_rules 4 = .ok (.iconst 4, 1) := dk_7 (dk_at dksX7_rules_0 4 rfl rfl)
theorem dX7_rules_5 : decode cX7_rules 5 = .ok (.iaload, 1) := dk_46 (dk_at dksX7_rules_0 5 rfl rfl)
theorem dX7_rules_6 : decode cX7_rules 6 = .ok (.ireturn, 1) := dk_172 (dk_at dksX7_rules_0 6 rfl rfl)
abbrev cX7_ruleOf : ByteArray := prog_22_method_20_code
def yX7_ruleOf : MethodName := ⟨RX7, "ruleOf", "(II)I"⟩
def dkwX7_ruleOf_0 : List UInt8 := [42, 180, 0, 9, 16, 11, 8, 27, 104, 96, 28, 96, 46, 172]
abbrev dktX7_ruleOf_0 : List UInt8 := dkwX7_ruleOf_0 ++ []
theorem dksX7_ruleOf_0 : cX7_ruleOf.data.toList.drop 0 = dktX7_ruleOf_0 := by decide +kernel
theorem dX7_ruleOf_0 : decode cX7_ruleOf 0 = .ok (.aload_n 0, 1) := dk_42 (dk_at dksX7_ruleOf_0 0 rfl rfl)
theorem dX7_ruleOf_1 : decode cX7_ruleOf 1 = .ok (.getfield 9, 3) := dk_180 0 9 (dk_at dksX7_ruleOf_0 1 rfl rfl)
theorem dX7_ruleOf_4 : decode cX7_ruleOf 4 = .ok (.bipush 11, 2) := dk_16 11 (dk_at dksX7_ruleOf_0 4 rfl rfl)
theorem dX7_ruleOf_6 : decode cX7_ruleOf 6 = .ok (.iconst 5, 1) := dk_8 (dk_at dksX7_ruleOf_0 6 rfl rfl)
theorem dX7_ruleOf_7 : decode cX7_ruleOf 7 = .ok (.iload_n 1, 1) := dk_27 (dk_at dksX7_ruleOf_0 7 rfl rfl)
theorem dX7_ruleOf_8 : decode cX7_ruleOf 8 = .ok (.imul, 1) := dk_104 (dk_at dksX7_ruleOf_0 8 rfl rfl)
theorem dX7_ruleOf_9 : decode cX7_ruleOf 9 = .ok (.iadd, 1) := dk_96 (dk_at dksX7_ruleOf_0 9 rfl rfl)
theorem dX7_ruleOf_10 : decode cX7_ruleOf 10 = .ok (.iload_n 2, 1) := dk_28 (dk_at dksX7_ruleOf_0 10 rfl rfl)
theorem dX7_ruleOf_11 : decode cX7_ruleOf 11 = .ok (.iadd, 1) := dk_96 (dk_at dksX7_ruleOf_0 11 rfl rfl)
theorem dX7_ruleOf_12 : decode cX7_ruleOf 12 = .ok (.iaload, 1) := dk_46 (dk_at dksX7_ruleOf_0 12 rfl rfl)
theorem dX7_ruleOf_13 : decode cX7_ruleOf 13 = .ok (.ireturn, 1) := dk_172 (dk_at dksX7_ruleOf_0 13 rfl rfl)
abbrev cX7_ruleNumbers : ByteArray := prog_22_method_22_code
def yX7_ruleNumbers : MethodName := ⟨RX7, "ruleNumbers", "(I)I"⟩
def dkwX7_ruleNumbers_0 : List UInt8 := [26, 6, 160, 0, 7, 6, 167, 0, 13, 26, 8, 160, 0, 7, 7, 167, 0, 4, 5, 172]
abbrev dktX7_ruleNumbers_0 : List UInt8 := dkwX7_ruleNumbers_0 ++ []
theorem dksX7_ruleNumbers_0 : cX7_ruleNumbers.data.toList.drop 0 = dktX7_ruleNumbers_0 := by decide +kernel
theorem dX7_ruleNumbers_0 : decode cX7_ruleNumbers 0 = .ok (.iload_n 0, 1) := dk_26 (dk_at dksX7_ruleNumbers_0 0 rfl rfl)
theorem dX7_ruleNumbers_1 : decode cX7_ruleNumbers 1 = .ok (.iconst 3, 1) := dk_6 (dk_at dksX7_ruleNumbers_0 1 rfl rfl)
theorem dX7_ruleNumbers_2 : decode cX7_ruleNumbers 2 = .ok (.if_icmp .ne 7, 3) := dk_160 0 7 (dk_at dksX7_ruleNumbers_0 2 rfl rfl)
theorem dX7_ruleNumbers_5 : decode cX7_ruleNumbers 5 = .ok (.iconst 3, 1) := dk_6 (dk_at dksX7_ruleNumbers_0 5 rfl rfl)
theorem dX7_ruleNumbers_6 : decode cX7_ruleNumbers 6 = .ok (.goto 13, 3) := dk_167 0 13 (dk_at dksX7_ruleNumbers_0 6 rfl rfl)
theorem dX7_ruleNumbers_9 : decode cX7_ruleNumbers 9 = .ok (.iload_n 0, 1) := dk_26 (dk_at dksX7_ruleNumbers_0 9 rfl rfl)
theorem dX7_ruleNumbers_10 : decode cX7_ruleNumbers 10 = .ok (.iconst 5, 1) := dk_8 (dk_at dksX7_ruleNumbers_0 10 rfl rfl)
theorem dX7_ruleNumbers_11 : decode cX7_ruleNumbers 11 = .ok (.if_icmp .ne 7, 3) := dk_160 0 7 (dk_at dksX7_ruleNumbers_0 11 rfl rfl)
theorem dX7_ruleNumbers_14 : decode cX7_ruleNumbers 14 = .ok (.iconst 4, 1) := dk_7 (dk_at dksX7_ruleNumbers_0 14 rfl rfl)
theorem dX7_ruleNumbers_15 : decode cX7_ruleNumbers 15 = .ok (.goto 4, 3) := dk_167 0 4 (dk_at dksX7_ruleNumbers_0 15 rfl rfl)
theorem dX7_ruleNumbers_18 : decode cX7_ruleNumbers 18 = .ok (.iconst 2, 1) := dk_5 (dk_at dksX7_ruleNumbers_0 18 rfl rfl)
theorem dX7_ruleNumbers_19 : decode cX7_ruleNumbers 19 = .ok (.ireturn, 1) := dk_172 (dk_at dksX7_ruleNumbers_0 19 rfl rfl)
abbrev cX7_op : ByteArray := prog_22_method_49_code
def yX7_op : MethodName := ⟨RX7, "op", "(II)I"⟩
def dkwX7_op_1 : List UInt8 := [42, 27, 3, 182, 1, 14, 184, 1, 17, 163, 0, 12, 42, 27, 28, 182, 1, 14, 167, 0, 4, 2, 172]
abbrev dktX7_op_1 : List UInt8 := dkwX7_op_1 ++ []
def dkwX7_op_0 : List UInt8 := [42, 27, 182, 1, 11, 153, 0, 15, 28, 133, 9, 20, 0, 90, 184, 0, 76, 154, 0, 6, 16, 254, 172, 28]
abbrev dktX7_op_0 : List UInt8 := dkwX7_op_0 ++ dktX7_op_1
theorem dksX7_op_0 : cX7_op.data.toList.drop 0 = dktX7_op_0 := by decide +kernel
theorem dksX7_op_1 : cX7_op.data.toList.drop 24 = dktX7_op_1 := dk_seg dksX7_op_0 24 rfl rfl
theorem dX7_op_0 : decode cX7_op 0 = .ok (.aload_n 0, 1) := dk_42 (dk_at dksX7_op_0 0 rfl rfl)
theorem dX7_op_1 : decode cX7_op 1 = .ok (.iload_n 1, 1) := dk_27 (dk_at dksX7_op_0 1 rfl rfl)
theorem dX7_op_2 : decode cX7_op 2 = .ok (.invokevirtual 267, 3) := dk_182 1 11 (dk_at dksX7_op_0 2 rfl rfl)
theorem dX7_op_5 : decode cX7_op 5 = .ok (.ifCond .eq 15, 3) := dk_153 0 15 (dk_at dksX7_op_0 5 rfl rfl)
theorem dX7_op_8 : decode cX7_op 8 = .ok (.iload_n 2, 1) := dk_28 (dk_at dksX7_op_0 8 rfl rfl)
theorem dX7_op_9 : decode cX7_op 9 = .ok (.i2l, 1) := dk_133 (dk_at dksX7_op_0 9 rfl rfl)
theorem dX7_op_10 : decode cX7_op 10 = .ok (.lconst 0, 1) := dk_9 (dk_at dksX7_op_0 10 rfl rfl)
theorem dX7_op_11 : decode cX7_op 11 = .ok (.ldc2_w 90, 3) := dk_20 0 90 (dk_at dksX7_op_0 11 rfl rfl)
theorem dX7_op_14 : decode cX7_op 14 = .ok (.invokestatic 76, 3) := dk_184 0 76 (dk_at dksX7_op_0 14 rfl rfl)
theorem dX7_op_17 : decode cX7_op 17 = .ok (.ifCond .ne 6, 3) := dk_154 0 6 (dk_at dksX7_op_0 17 rfl rfl)
theorem dX7_op_20 : decode cX7_op 20 = .ok (.bipush (-2), 2) := dk_16 254 (dk_at dksX7_op_0 20 rfl rfl)
theorem dX7_op_22 : decode cX7_op 22 = .ok (.ireturn, 1) := dk_172 (dk_at dksX7_op_0 22 rfl rfl)
theorem dX7_op_23 : decode cX7_op 23 = .ok (.iload_n 2, 1) := dk_28 (dk_at dksX7_op_0 23 rfl rfl)
theorem dX7_op_24 : decode cX7_op 24 = .ok (.aload_n 0, 1) := dk_42 (dk_at dksX7_op_1 0 rfl rfl)
theorem dX7_op_25 : decode cX7_op 25 = .ok (.iload_n 1, 1) := dk_27 (dk_at dksX7_op_1 1 rfl rfl)
theorem dX7_op_26 : decode cX7_op 26 = .ok (.iconst 0, 1) := dk_3 (dk_at dksX7_op_1 2 rfl rfl)
theorem dX7_op_27 : decode cX7_op 27 = .ok (.invokevirtual 270, 3) := dk_182 1 14 (dk_at dksX7_op_1 3 rfl rfl)
theorem dX7_op_30 : decode cX7_op 30 = .ok (.invokestatic 273, 3) := dk_184 1 17 (dk_at dksX7_op_1 6 rfl rfl)
theorem dX7_op_33 : decode cX7_op 33 = .ok (.if_icmp .gt 12, 3) := dk_163 0 12 (dk_at dksX7_op_1 9 rfl rfl)
theorem dX7_op_36 : decode cX7_op 36 = .ok (.aload_n 0, 1) := dk_42 (dk_at dksX7_op_1 12 rfl rfl)
theorem dX7_op_37 : decode cX7_op 37 = .ok (.iload_n 1, 1) := dk_27 (dk_at dksX7_op_1 13 rfl rfl)
theorem dX7_op_38 : decode cX7_op 38 = .ok (.iload_n 2, 1) := dk_28 (dk_at dksX7_op_1 14 rfl rfl)
theorem dX7_op_39 : decode cX7_op 39 = .ok (.invokevirtual 270, 3) := dk_182 1 14 (dk_at dksX7_op_1 15 rfl rfl)
theorem dX7_op_42 : decode cX7_op 42 = .ok (.goto 4, 3) := dk_167 0 4 (dk_at dksX7_op_1 18 rfl rfl)
theorem dX7_op_45 : decode cX7_op 45 = .ok (.iconst (-1), 1) := dk_2 (dk_at dksX7_op_1 21 rfl rfl)
theorem dX7_op_46 : decode cX7_op 46 = .ok (.ireturn, 1) := dk_172 (dk_at dksX7_op_1 22 rfl rfl)
abbrev cX7_isOp : ByteArray := prog_22_method_16_code
def yX7_isOp : MethodName := ⟨RX7, "isOp", "(I)Z"⟩
def dkwX7_isOp_0 : List UInt8 := [27, 133, 9, 42, 182, 0, 84, 4, 100, 133, 184, 0, 76, 172]
abbrev dktX7_isOp_0 : List UInt8 := dkwX7_isOp_0 ++ []
theorem dksX7_isOp_0 : cX7_isOp.data.toList.drop 0 = dktX7_isOp_0 := by decide +kernel
theorem dX7_isOp_0 : decode cX7_isOp 0 = .ok (.iload_n 1, 1) := dk_27 (dk_at dksX7_isOp_0 0 rfl rfl)
theorem dX7_isOp_1 : decode cX7_isOp 1 = .ok (.i2l, 1) := dk_133 (dk_at dksX7_isOp_0 1 rfl rfl)
theorem dX7_isOp_2 : decode cX7_isOp 2 = .ok (.lconst 0, 1) := dk_9 (dk_at dksX7_isOp_0 2 rfl rfl)
theorem dX7_isOp_3 : decode cX7_isOp 3 = .ok (.aload_n 0, 1) := dk_42 (dk_at dksX7_isOp_0 3 rfl rfl)
theorem dX7_isOp_4 : decode cX7_isOp 4 = .ok (.invokevirtual 84, 3) := dk_182 0 84 (dk_at dksX7_isOp_0 4 rfl rfl)
theorem dX7_isOp_7 : decode cX7_isOp 7 = .ok (.iconst 1, 1) := dk_4 (dk_at dksX7_isOp_0 7 rfl rfl)
theorem dX7_isOp_8 : decode cX7_isOp 8 = .ok (.isub, 1) := dk_100 (dk_at dksX7_isOp_0 8 rfl rfl)
theorem dX7_isOp_9 : decode cX7_isOp 9 = .ok (.i2l, 1) := dk_133 (dk_at dksX7_isOp_0 9 rfl rfl)
theorem dX7_isOp_10 : decode cX7_isOp 10 = .ok (.invokestatic 76, 3) := dk_184 0 76 (dk_at dksX7_isOp_0 10 rfl rfl)
theorem dX7_isOp_13 : decode cX7_isOp 13 = .ok (.ireturn, 1) := dk_172 (dk_at dksX7_isOp_0 13 rfl rfl)
abbrev cX7_ops : ByteArray := prog_22_method_11_code
def yX7_ops : MethodName := ⟨RX7, "ops", "()I"⟩
def dkwX7_ops_0 : List UInt8 := [42, 180, 0, 9, 8, 46, 172]
abbrev dktX7_ops_0 : List UInt8 := dkwX7_ops_0 ++ []
theorem dksX7_ops_0 : cX7_ops.data.toList.drop 0 = dktX7_ops_0 := by decide +kernel
theorem dX7_ops_0 : decode cX7_ops 0 = .ok (.aload_n 0, 1) := dk_42 (dk_at dksX7_ops_0 0 rfl rfl)
theorem dX7_ops_1 : decode cX7_ops 1 = .ok (.getfield 9, 3) := dk_180 0 9 (dk_at dksX7_ops_0 1 rfl rfl)
theorem dX7_ops_4 : decode cX7_ops 4 = .ok (.iconst 5, 1) := dk_8 (dk_at dksX7_ops_0 4 rfl rfl)
theorem dX7_ops_5 : decode cX7_ops 5 = .ok (.iaload, 1) := dk_46 (dk_at dksX7_ops_0 5 rfl rfl)
theorem dX7_ops_6 : decode cX7_ops 6 = .ok (.ireturn, 1) := dk_172 (dk_at dksX7_ops_0 6 rfl rfl)
abbrev cX7_opOf : ByteArray := prog_22_method_21_code
def yX7_opOf : MethodName := ⟨RX7, "opOf", "(II)I"⟩
def dkwX7_opOf_0 : List UInt8 := [42, 180, 0, 9, 16, 36, 7, 27, 104, 96, 28, 96, 46, 172]
abbrev dktX7_opOf_0 : List UInt8 := dkwX7_opOf_0 ++ []
theorem dksX7_opOf_0 : cX7_opOf.data.toList.drop 0 = dktX7_opOf_0 := by decide +kernel
theorem dX7_opOf_0 : decode cX7_opOf 0 = .ok (.aload_n 0, 1) := dk_42 (dk_at dksX7_opOf_0 0 rfl rfl)
theorem dX7_opOf_1 : decode cX7_opOf 1 = .ok (.getfield 9, 3) := dk_180 0 9 (dk_at dksX7_opOf_0 1 rfl rfl)
theorem dX7_opOf_4 : decode cX7_opOf 4 = .ok (.bipush 36, 2) := dk_16 36 (dk_at dksX7_opOf_0 4 rfl rfl)
theorem dX7_opOf_6 : decode cX7_opOf 6 = .ok (.iconst 4, 1) := dk_7 (dk_at dksX7_opOf_0 6 rfl rfl)
theorem dX7_opOf_7 : decode cX7_opOf 7 = .ok (.iload_n 1, 1) := dk_27 (dk_at dksX7_opOf_0 7 rfl rfl)
theorem dX7_opOf_8 : decode cX7_opOf 8 = .ok (.imul, 1) := dk_104 (dk_at dksX7_opOf_0 8 rfl rfl)
theorem dX7_opOf_9 : decode cX7_opOf 9 = .ok (.iadd, 1) := dk_96 (dk_at dksX7_opOf_0 9 rfl rfl)
theorem dX7_opOf_10 : decode cX7_opOf 10 = .ok (.iload_n 2, 1) := dk_28 (dk_at dksX7_opOf_0 10 rfl rfl)
theorem dX7_opOf_11 : decode cX7_opOf 11 = .ok (.iadd, 1) := dk_96 (dk_at dksX7_opOf_0 11 rfl rfl)
theorem dX7_opOf_12 : decode cX7_opOf 12 = .ok (.iaload, 1) := dk_46 (dk_at dksX7_opOf_0 12 rfl rfl)
theorem dX7_opOf_13 : decode cX7_opOf 13 = .ok (.ireturn, 1) := dk_172 (dk_at dksX7_opOf_0 13 rfl rfl)
abbrev cX7_opNumbers : ByteArray := prog_22_method_23_code
def yX7_opNumbers : MethodName := ⟨RX7, "opNumbers", "(I)I"⟩
def dkwX7_opNumbers_0 : List UInt8 := [26, 6, 160, 0, 7, 6, 167, 0, 4, 5, 172]
abbrev dktX7_opNumbers_0 : List UInt8 := dkwX7_opNumbers_0 ++ []
theorem dksX7_opNumbers_0 : cX7_opNumbers.data.toList.drop 0 = dktX7_opNumbers_0 := by decide +kernel
theorem dX7_opNumbers_0 : decode cX7_opNumbers 0 = .ok (.iload_n 0, 1) := dk_26 (dk_at dksX7_opNumbers_0 0 rfl rfl)
theorem dX7_opNumbers_1 : decode cX7_opNumbers 1 = .ok (.iconst 3, 1) := dk_6 (dk_at dksX7_opNumbers_0 1 rfl rfl)
theorem dX7_opNumbers_2 : decode cX7_opNumbers 2 = .ok (.if_icmp .ne 7, 3) := dk_160 0 7 (dk_at dksX7_opNumbers_0 2 rfl rfl)
theorem dX7_opNumbers_5 : decode cX7_opNumbers 5 = .ok (.iconst 3, 1) := dk_6 (dk_at dksX7_opNumbers_0 5 rfl rfl)
theorem dX7_opNumbers_6 : decode cX7_opNumbers 6 = .ok (.goto 4, 3) := dk_167 0 4 (dk_at dksX7_opNumbers_0 6 rfl rfl)
theorem dX7_opNumbers_9 : decode cX7_opNumbers 9 = .ok (.iconst 2, 1) := dk_5 (dk_at dksX7_opNumbers_0 9 rfl rfl)
theorem dX7_opNumbers_10 : decode cX7_opNumbers 10 = .ok (.ireturn, 1) := dk_172 (dk_at dksX7_opNumbers_0 10 rfl rfl)
abbrev cX7_states : ByteArray := prog_22_method_61_code
def yX7_states : MethodName := ⟨RX7, "states", "()I"⟩
def dkwX7_states_0 : List UInt8 := [42, 182, 0, 92, 153, 0, 10, 42, 182, 0, 96, 167, 0, 5, 16, 254, 172]
abbrev dktX7_states_0 : List UInt8 := dkwX7_states_0 ++ []
theorem dksX7_states_0 : cX7_states.data.toList.drop 0 = dktX7_states_0 := by decide +kernel
theorem dX7_states_0 : decode cX7_states 0 = .ok (.aload_n 0, 1) := dk_42 (dk_at dksX7_states_0 0 rfl rfl)
theorem dX7_states_1 : decode cX7_states 1 = .ok (.invokevirtual 92, 3) := dk_182 0 92 (dk_at dksX7_states_0 1 rfl rfl)
theorem dX7_states_4 : decode cX7_states 4 = .ok (.ifCond .eq 10, 3) := dk_153 0 10 (dk_at dksX7_states_0 4 rfl rfl)
theorem dX7_states_7 : decode cX7_states 7 = .ok (.aload_n 0, 1) := dk_42 (dk_at dksX7_states_0 7 rfl rfl)
theorem dX7_states_8 : decode cX7_states 8 = .ok (.invokevirtual 96, 3) := dk_182 0 96 (dk_at dksX7_states_0 8 rfl rfl)
theorem dX7_states_11 : decode cX7_states 11 = .ok (.goto 5, 3) := dk_167 0 5 (dk_at dksX7_states_0 11 rfl rfl)
theorem dX7_states_14 : decode cX7_states 14 = .ok (.bipush (-2), 2) := dk_16 254 (dk_at dksX7_states_0 14 rfl rfl)
theorem dX7_states_16 : decode cX7_states 16 = .ok (.ireturn, 1) := dk_172 (dk_at dksX7_states_0 16 rfl rfl)
abbrev cX7_isBase : ByteArray := prog_22_method_8_code
def yX7_isBase : MethodName := ⟨RX7, "isBase", "()Z"⟩
def dkwX7_isBase_0 : List UInt8 := [42, 180, 0, 9, 16, 7, 46, 158, 0, 7, 4, 167, 0, 4, 3, 172]
abbrev dktX7_isBase_0 : List UInt8 := dkwX7_isBase_0 ++ []
theorem dksX7_isBase_0 : cX7_isBase.data.toList.drop 0 = dktX7_isBase_0 := by decide +kernel
theorem dX7_isBase_0 : decode cX7_isBase 0 = .ok (.aload_n 0, 1) := dk_42 (dk_at dksX7_isBase_0 0 rfl rfl)
theorem dX7_isBase_1 : decode cX7_isBase 1 = .ok (.getfield 9, 3) := dk_180 0 9 (dk_at dksX7_isBase_0 1 rfl rfl)
theorem dX7_isBase_4 : decode cX7_isBase 4 = .ok (.bipush 7, 2) := dk_16 7 (dk_at dksX7_isBase_0 4 rfl rfl)
theorem dX7_isBase_6 : decode cX7_isBase 6 = .ok (.iaload, 1) := dk_46 (dk_at dksX7_isBase_0 6 rfl rfl)
theorem dX7_isBase_7 : decode cX7_isBase 7 = .ok (.ifCond .le 7, 3) := dk_158 0 7 (dk_at dksX7_isBase_0 7 rfl rfl)
theorem dX7_isBase_10 : decode cX7_isBase 10 = .ok (.iconst 1, 1) := dk_4 (dk_at dksX7_isBase_0 10 rfl rfl)
theorem dX7_isBase_11 : decode cX7_isBase 11 = .ok (.goto 4, 3) := dk_167 0 4 (dk_at dksX7_isBase_0 11 rfl rfl)
theorem dX7_isBase_14 : decode cX7_isBase 14 = .ok (.iconst 0, 1) := dk_3 (dk_at dksX7_isBase_0 14 rfl rfl)
theorem dX7_isBase_15 : decode cX7_isBase 15 = .ok (.ireturn, 1) := dk_172 (dk_at dksX7_isBase_0 15 rfl rfl)
abbrev cX7_stateMany : ByteArray := prog_22_method_18_code
def yX7_stateMany : MethodName := ⟨RX7, "stateMany", "()I"⟩
def dkwX7_stateMany_1 : List UInt8 := [132, 2, 1, 167, 255, 234, 27, 172]
abbrev dktX7_stateMany_1 : List UInt8 := dkwX7_stateMany_1 ++ []
def dkwX7_stateMany_0 : List UInt8 := [4, 60, 3, 61, 28, 42, 182, 0, 87, 162, 0, 20, 27, 42, 180, 0, 9, 3, 46, 4, 96, 104, 60]
abbrev dktX7_stateMany_0 : List UInt8 := dkwX7_stateMany_0 ++ dktX7_stateMany_1
theorem dksX7_stateMany_0 : cX7_stateMany.data.toList.drop 0 = dktX7_stateMany_0 := by decide +kernel
theorem dksX7_stateMany_1 : cX7_stateMany.data.toList.drop 23 = dktX7_stateMany_1 := dk_seg dksX7_stateMany_0 23 rfl rfl
theorem dX7_stateMany_0 : decode cX7_stateMany 0 = .ok (.iconst 1, 1) := dk_4 (dk_at dksX7_stateMany_0 0 rfl rfl)
theorem dX7_stateMany_1 : decode cX7_stateMany 1 = .ok (.istore_n 1, 1) := dk_60 (dk_at dksX7_stateMany_0 1 rfl rfl)
theorem dX7_stateMany_2 : decode cX7_stateMany 2 = .ok (.iconst 0, 1) := dk_3 (dk_at dksX7_stateMany_0 2 rfl rfl)
theorem dX7_stateMany_3 : decode cX7_stateMany 3 = .ok (.istore_n 2, 1) := dk_61 (dk_at dksX7_stateMany_0 3 rfl rfl)
theorem dX7_stateMany_4 : decode cX7_stateMany 4 = .ok (.iload_n 2, 1) := dk_28 (dk_at dksX7_stateMany_0 4 rfl rfl)
theorem dX7_stateMany_5 : decode cX7_stateMany 5 = .ok (.aload_n 0, 1) := dk_42 (dk_at dksX7_stateMany_0 5 rfl rfl)
theorem dX7_stateMany_6 : decode cX7_stateMany 6 = .ok (.invokevirtual 87, 3) := dk_182 0 87 (dk_at dksX7_stateMany_0 6 rfl rfl)
theorem dX7_stateMany_9 : decode cX7_stateMany 9 = .ok (.if_icmp .ge 20, 3) := dk_162 0 20 (dk_at dksX7_stateMany_0 9 rfl rfl)
theorem dX7_stateMany_12 : decode cX7_stateMany 12 = .ok (.iload_n 1, 1) := dk_27 (dk_at dksX7_stateMany_0 12 rfl rfl)
theorem dX7_stateMany_13 : decode cX7_stateMany 13 = .ok (.aload_n 0, 1) := dk_42 (dk_at dksX7_stateMany_0 13 rfl rfl)
theorem dX7_stateMany_14 : decode cX7_stateMany 14 = .ok (.getfield 9, 3) := dk_180 0 9 (dk_at dksX7_stateMany_0 14 rfl rfl)
theorem dX7_stateMany_17 : decode cX7_stateMany 17 = .ok (.iconst 0, 1) := dk_3 (dk_at dksX7_stateMany_0 17 rfl rfl)
theorem dX7_stateMany_18 : decode cX7_stateMany 18 = .ok (.iaload, 1) := dk_46 (dk_at dksX7_stateMany_0 18 rfl rfl)
theorem dX7_stateMany_19 : decode cX7_stateMany 19 = .ok (.iconst 1, 1) := dk_4 (dk_at dksX7_stateMany_0 19 rfl rfl)
theorem dX7_stateMany_20 : decode cX7_stateMany 20 = .ok (.iadd, 1) := dk_96 (dk_at dksX7_stateMany_0 20 rfl rfl)
theorem dX7_stateMany_21 : decode cX7_stateMany 21 = .ok (.imul, 1) := dk_104 (dk_at dksX7_stateMany_0 21 rfl rfl)
theorem dX7_stateMany_22 : decode cX7_stateMany 22 = .ok (.istore_n 1, 1) := dk_60 (dk_at dksX7_stateMany_0 22 rfl rfl)
theorem dX7_stateMany_23 : decode cX7_stateMany 23 = .ok (.iinc 2 1, 3) := dk_132 2 1 (dk_at dksX7_stateMany_1 0 rfl rfl)
theorem dX7_stateMany_26 : decode cX7_stateMany 26 = .ok (.goto (-22), 3) := dk_167 255 234 (dk_at dksX7_stateMany_1 3 rfl rfl)
theorem dX7_stateMany_29 : decode cX7_stateMany 29 = .ok (.iload_n 1, 1) := dk_27 (dk_at dksX7_stateMany_1 6 rfl rfl)
theorem dX7_stateMany_30 : decode cX7_stateMany 30 = .ok (.ireturn, 1) := dk_172 (dk_at dksX7_stateMany_1 7 rfl rfl)
abbrev cX7_value : ByteArray := prog_22_method_62_code
def yX7_value : MethodName := ⟨RX7, "value", "(II)I"⟩
def dkwX7_value_1 : List UInt8 := [167, 0, 5, 16, 254, 172]
abbrev dktX7_value_1 : List UInt8 := dkwX7_value_1 ++ []
def dkwX7_value_0 : List UInt8 := [42, 27, 133, 182, 1, 58, 153, 0, 20, 42, 28, 182, 0, 252, 153, 0, 12, 42, 27, 28, 182, 1, 29]
abbrev dktX7_value_0 : List UInt8 := dkwX7_value_0 ++ dktX7_value_1
theorem dksX7_value_0 : cX7_value.data.toList.drop 0 = dktX7_value_0 := by decide +kernel
theorem dksX7_value_1 : cX7_value.data.toList.drop 23 = dktX7_value_1 := dk_seg dksX7_value_0 23 rfl rfl
theorem dX7_value_0 : decode cX7_value 0 = .ok (.aload_n 0, 1) := dk_42 (dk_at dksX7_value_0 0 rfl rfl)
theorem dX7_value_1 : decode cX7_value 1 = .ok (.iload_n 1, 1) := dk_27 (dk_at dksX7_value_0 1 rfl rfl)
theorem dX7_value_2 : decode cX7_value 2 = .ok (.i2l, 1) := dk_133 (dk_at dksX7_value_0 2 rfl rfl)
theorem dX7_value_3 : decode cX7_value 3 = .ok (.invokevirtual 314, 3) := dk_182 1 58 (dk_at dksX7_value_0 3 rfl rfl)
theorem dX7_value_6 : decode cX7_value 6 = .ok (.ifCond .eq 20, 3) := dk_153 0 20 (dk_at dksX7_value_0 6 rfl rfl)
theorem dX7_value_9 : decode cX7_value 9 = .ok (.aload_n 0, 1) := dk_42 (dk_at dksX7_value_0 9 rfl rfl)
theorem dX7_value_10 : decode cX7_value 10 = .ok (.iload_n 2, 1) := dk_28 (dk_at dksX7_value_0 10 rfl rfl)
theorem dX7_value_11 : decode cX7_value 11 = .ok (.invokevirtual 252, 3) := dk_182 0 252 (dk_at dksX7_value_0 11 rfl rfl)
theorem dX7_value_14 : decode cX7_value 14 = .ok (.ifCond .eq 12, 3) := dk_153 0 12 (dk_at dksX7_value_0 14 rfl rfl)
theorem dX7_value_17 : decode cX7_value 17 = .ok (.aload_n 0, 1) := dk_42 (dk_at dksX7_value_0 17 rfl rfl)
theorem dX7_value_18 : decode cX7_value 18 = .ok (.iload_n 1, 1) := dk_27 (dk_at dksX7_value_0 18 rfl rfl)
theorem dX7_value_19 : decode cX7_value 19 = .ok (.iload_n 2, 1) := dk_28 (dk_at dksX7_value_0 19 rfl rfl)
theorem dX7_value_20 : decode cX7_value 20 = .ok (.invokevirtual 285, 3) := dk_182 1 29 (dk_at dksX7_value_0 20 rfl rfl)
theorem dX7_value_23 : decode cX7_value 23 = .ok (.goto 5, 3) := dk_167 0 5 (dk_at dksX7_value_1 0 rfl rfl)
theorem dX7_value_26 : decode cX7_value 26 = .ok (.bipush (-2), 2) := dk_16 254 (dk_at dksX7_value_1 3 rfl rfl)
theorem dX7_value_28 : decode cX7_value 28 = .ok (.ireturn, 1) := dk_172 (dk_at dksX7_value_1 5 rfl rfl)
abbrev cX7_isState : ByteArray := prog_22_method_19_code
def yX7_isState : MethodName := ⟨RX7, "isState", "(J)Z"⟩
def dkwX7_isState_1 : List UInt8 := [167, 0, 4, 3, 172]
abbrev dktX7_isState_1 : List UInt8 := dkwX7_isState_1 ++ []
def dkwX7_isState_0 : List UInt8 := [42, 182, 0, 92, 153, 0, 22, 31, 9, 42, 182, 0, 96, 4, 100, 133, 184, 0, 76, 153, 0, 7, 4]
abbrev dktX7_isState_0 : List UInt8 := dkwX7_isState_0 ++ dktX7_isState_1
theorem dksX7_isState_0 : cX7_isState.data.toList.drop 0 = dktX7_isState_0 := by decide +kernel
theorem dksX7_isState_1 : cX7_isState.data.toList.drop 23 = dktX7_isState_1 := dk_seg dksX7_isState_0 23 rfl rfl
theorem dX7_isState_0 : decode cX7_isState 0 = .ok (.aload_n 0, 1) := dk_42 (dk_at dksX7_isState_0 0 rfl rfl)
theorem dX7_isState_1 : decode cX7_isState 1 = .ok (.invokevirtual 92, 3) := dk_182 0 92 (dk_at dksX7_isState_0 1 rfl rfl)
theorem dX7_isState_4 : decode cX7_isState 4 = .ok (.ifCond .eq 22, 3) := dk_153 0 22 (dk_at dksX7_isState_0 4 rfl rfl)
theorem dX7_isState_7 : decode cX7_isState 7 = .ok (.lload_n 1, 1) := dk_31 (dk_at dksX7_isState_0 7 rfl rfl)
theorem dX7_isState_8 : decode cX7_isState 8 = .ok (.lconst 0, 1) := dk_9 (dk_at dksX7_isState_0 8 rfl rfl)
theorem dX7_isState_9 : decode cX7_isState 9 = .ok (.aload_n 0, 1) := dk_42 (dk_at dksX7_isState_0 9 rfl rfl)
theorem dX7_isState_10 : decode cX7_isState 10 = .ok (.invokevirtual 96, 3) := dk_182 0 96 (dk_at dksX7_isState_0 10 rfl rfl)
theorem dX7_isState_13 : decode cX7_isState 13 = .ok (.iconst 1, 1) := dk_4 (dk_at dksX7_isState_0 13 rfl rfl)
theorem dX7_isState_14 : decode cX7_isState 14 = .ok (.isub, 1) := dk_100 (dk_at dksX7_isState_0 14 rfl rfl)
theorem dX7_isState_15 : decode cX7_isState 15 = .ok (.i2l, 1) := dk_133 (dk_at dksX7_isState_0 15 rfl rfl)
theorem dX7_isState_16 : decode cX7_isState 16 = .ok (.invokestatic 76, 3) := dk_184 0 76 (dk_at dksX7_isState_0 16 rfl rfl)
theorem dX7_isState_19 : decode cX7_isState 19 = .ok (.ifCond .eq 7, 3) := dk_153 0 7 (dk_at dksX7_isState_0 19 rfl rfl)
theorem dX7_isState_22 : decode cX7_isState 22 = .ok (.iconst 1, 1) := dk_4 (dk_at dksX7_isState_0 22 rfl rfl)
theorem dX7_isState_23 : decode cX7_isState 23 = .ok (.goto 4, 3) := dk_167 0 4 (dk_at dksX7_isState_1 0 rfl rfl)
theorem dX7_isState_26 : decode cX7_isState 26 = .ok (.iconst 0, 1) := dk_3 (dk_at dksX7_isState_1 3 rfl rfl)
theorem dX7_isState_27 : decode cX7_isState 27 = .ok (.ireturn, 1) := dk_172 (dk_at dksX7_isState_1 4 rfl rfl)
abbrev cX7_valueOf : ByteArray := prog_22_method_51_code
def yX7_valueOf : MethodName := ⟨RX7, "valueOf", "(II)I"⟩
def dkwX7_valueOf_1 : List UInt8 := [132, 4, 1, 167, 255, 236, 29, 42, 180, 0, 9, 3, 46, 4, 96, 112, 172]
abbrev dktX7_valueOf_1 : List UInt8 := dkwX7_valueOf_1 ++ []
def dkwX7_valueOf_0 : List UInt8 := [27, 62, 3, 54, 4, 21, 4, 28, 162, 0, 20, 29, 42, 180, 0, 9, 3, 46, 4, 96, 108, 62]
abbrev dktX7_valueOf_0 : List UInt8 := dkwX7_valueOf_0 ++ dktX7_valueOf_1
theorem dksX7_valueOf_0 : cX7_valueOf.data.toList.drop 0 = dktX7_valueOf_0 := by decide +kernel
theorem dksX7_valueOf_1 : cX7_valueOf.data.toList.drop 22 = dktX7_valueOf_1 := dk_seg dksX7_valueOf_0 22 rfl rfl
theorem dX7_valueOf_0 : decode cX7_valueOf 0 = .ok (.iload_n 1, 1) := dk_27 (dk_at dksX7_valueOf_0 0 rfl rfl)
theorem dX7_valueOf_1 : decode cX7_valueOf 1 = .ok (.istore_n 3, 1) := dk_62 (dk_at dksX7_valueOf_0 1 rfl rfl)
theorem dX7_valueOf_2 : decode cX7_valueOf 2 = .ok (.iconst 0, 1) := dk_3 (dk_at dksX7_valueOf_0 2 rfl rfl)
theorem dX7_valueOf_3 : decode cX7_valueOf 3 = .ok (.istore 4, 2) := dk_54 4 (dk_at dksX7_valueOf_0 3 rfl rfl)
theorem dX7_valueOf_5 : decode cX7_valueOf 5 = .ok (.iload 4, 2) := dk_21 4 (dk_at dksX7_valueOf_0 5 rfl rfl)
theorem dX7_valueOf_7 : decode cX7_valueOf 7 = .ok (.iload_n 2, 1) := dk_28 (dk_at dksX7_valueOf_0 7 rfl rfl)
theorem dX7_valueOf_8 : decode cX7_valueOf 8 = .ok (.if_icmp .ge 20, 3) := dk_162 0 20 (dk_at dksX7_valueOf_0 8 rfl rfl)
theorem dX7_valueOf_11 : decode cX7_valueOf 11 = .ok (.iload_n 3, 1) := dk_29 (dk_at dksX7_valueOf_0 11 rfl rfl)
theorem dX7_valueOf_12 : decode cX7_valueOf 12 = .ok (.aload_n 0, 1) := dk_42 (dk_at dksX7_valueOf_0 12 rfl rfl)
theorem dX7_valueOf_13 : decode cX7_valueOf 13 = .ok (.getfield 9, 3) := dk_180 0 9 (dk_at dksX7_valueOf_0 13 rfl rfl)
theorem dX7_valueOf_16 : decode cX7_valueOf 16 = .ok (.iconst 0, 1) := dk_3 (dk_at dksX7_valueOf_0 16 rfl rfl)
theorem dX7_valueOf_17 : decode cX7_valueOf 17 = .ok (.iaload, 1) := dk_46 (dk_at dksX7_valueOf_0 17 rfl rfl)
theorem dX7_valueOf_18 : decode cX7_valueOf 18 = .ok (.iconst 1, 1) := dk_4 (dk_at dksX7_valueOf_0 18 rfl rfl)
theorem dX7_valueOf_19 : decode cX7_valueOf 19 = .ok (.iadd, 1) := dk_96 (dk_at dksX7_valueOf_0 19 rfl rfl)
theorem dX7_valueOf_20 : decode cX7_valueOf 20 = .ok (.idiv, 1) := dk_108 (dk_at dksX7_valueOf_0 20 rfl rfl)
theorem dX7_valueOf_21 : decode cX7_valueOf 21 = .ok (.istore_n 3, 1) := dk_62 (dk_at dksX7_valueOf_0 21 rfl rfl)
theorem dX7_valueOf_22 : decode cX7_valueOf 22 = .ok (.iinc 4 1, 3) := dk_132 4 1 (dk_at dksX7_valueOf_1 0 rfl rfl)
theorem dX7_valueOf_25 : decode cX7_valueOf 25 = .ok (.goto (-20), 3) := dk_167 255 236 (dk_at dksX7_valueOf_1 3 rfl rfl)
theorem dX7_valueOf_28 : decode cX7_valueOf 28 = .ok (.iload_n 3, 1) := dk_29 (dk_at dksX7_valueOf_1 6 rfl rfl)
theorem dX7_valueOf_29 : decode cX7_valueOf 29 = .ok (.aload_n 0, 1) := dk_42 (dk_at dksX7_valueOf_1 7 rfl rfl)
theorem dX7_valueOf_30 : decode cX7_valueOf 30 = .ok (.getfield 9, 3) := dk_180 0 9 (dk_at dksX7_valueOf_1 8 rfl rfl)
theorem dX7_valueOf_33 : decode cX7_valueOf 33 = .ok (.iconst 0, 1) := dk_3 (dk_at dksX7_valueOf_1 11 rfl rfl)
theorem dX7_valueOf_34 : decode cX7_valueOf 34 = .ok (.iaload, 1) := dk_46 (dk_at dksX7_valueOf_1 12 rfl rfl)
theorem dX7_valueOf_35 : decode cX7_valueOf 35 = .ok (.iconst 1, 1) := dk_4 (dk_at dksX7_valueOf_1 13 rfl rfl)
theorem dX7_valueOf_36 : decode cX7_valueOf 36 = .ok (.iadd, 1) := dk_96 (dk_at dksX7_valueOf_1 14 rfl rfl)
theorem dX7_valueOf_37 : decode cX7_valueOf 37 = .ok (.irem, 1) := dk_112 (dk_at dksX7_valueOf_1 15 rfl rfl)
theorem dX7_valueOf_38 : decode cX7_valueOf 38 = .ok (.ireturn, 1) := dk_172 (dk_at dksX7_valueOf_1 16 rfl rfl)
abbrev cX7_weight : ByteArray := prog_22_method_63_code
def yX7_weight : MethodName := ⟨RX7, "weight", "(I)I"⟩
def dkwX7_weight_1 : List UInt8 := [28, 42, 27, 29, 182, 1, 29, 96, 61, 132, 3, 1, 167, 255, 236, 28, 172]
abbrev dktX7_weight_1 : List UInt8 := dkwX7_weight_1 ++ []
def dkwX7_weight_0 : List UInt8 := [42, 27, 133, 182, 1, 58, 154, 0, 6, 16, 254, 172, 3, 61, 3, 62, 29, 42, 182, 0, 87, 162, 0, 18]
abbrev dktX7_weight_0 : List UInt8 := dkwX7_weight_0 ++ dktX7_weight_1
theorem dksX7_weight_0 : cX7_weight.data.toList.drop 0 = dktX7_weight_0 := by decide +kernel
theorem dksX7_weight_1 : cX7_weight.data.toList.drop 24 = dktX7_weight_1 := dk_seg dksX7_weight_0 24 rfl rfl
theorem dX7_weight_0 : decode cX7_weight 0 = .ok (.aload_n 0, 1) := dk_42 (dk_at dksX7_weight_0 0 rfl rfl)
theorem dX7_weight_1 : decode cX7_weight 1 = .ok (.iload_n 1, 1) := dk_27 (dk_at dksX7_weight_0 1 rfl rfl)
theorem dX7_weight_2 : decode cX7_weight 2 = .ok (.i2l, 1) := dk_133 (dk_at dksX7_weight_0 2 rfl rfl)
theorem dX7_weight_3 : decode cX7_weight 3 = .ok (.invokevirtual 314, 3) := dk_182 1 58 (dk_at dksX7_weight_0 3 rfl rfl)
theorem dX7_weight_6 : decode cX7_weight 6 = .ok (.ifCond .ne 6, 3) := dk_154 0 6 (dk_at dksX7_weight_0 6 rfl rfl)
theorem dX7_weight_9 : decode cX7_weight 9 = .ok (.bipush (-2), 2) := dk_16 254 (dk_at dksX7_weight_0 9 rfl rfl)
theorem dX7_weight_11 : decode cX7_weight 11 = .ok (.ireturn, 1) := dk_172 (dk_at dksX7_weight_0 11 rfl rfl)
theorem dX7_weight_12 : decode cX7_weight 12 = .ok (.iconst 0, 1) := dk_3 (dk_at dksX7_weight_0 12 rfl rfl)
theorem dX7_weight_13 : decode cX7_weight 13 = .ok (.istore_n 2, 1) := dk_61 (dk_at dksX7_weight_0 13 rfl rfl)
theorem dX7_weight_14 : decode cX7_weight 14 = .ok (.iconst 0, 1) := dk_3 (dk_at dksX7_weight_0 14 rfl rfl)
theorem dX7_weight_15 : decode cX7_weight 15 = .ok (.istore_n 3, 1) := dk_62 (dk_at dksX7_weight_0 15 rfl rfl)
theorem dX7_weight_16 : decode cX7_weight 16 = .ok (.iload_n 3, 1) := dk_29 (dk_at dksX7_weight_0 16 rfl rfl)
theorem dX7_weight_17 : decode cX7_weight 17 = .ok (.aload_n 0, 1) := dk_42 (dk_at dksX7_weight_0 17 rfl rfl)
theorem dX7_weight_18 : decode cX7_weight 18 = .ok (.invokevirtual 87, 3) := dk_182 0 87 (dk_at dksX7_weight_0 18 rfl rfl)
theorem dX7_weight_21 : decode cX7_weight 21 = .ok (.if_icmp .ge 18, 3) := dk_162 0 18 (dk_at dksX7_weight_0 21 rfl rfl)
theorem dX7_weight_24 : decode cX7_weight 24 = .ok (.iload_n 2, 1) := dk_28 (dk_at dksX7_weight_1 0 rfl rfl)
theorem dX7_weight_25 : decode cX7_weight 25 = .ok (.aload_n 0, 1) := dk_42 (dk_at dksX7_weight_1 1 rfl rfl)
theorem dX7_weight_26 : decode cX7_weight 26 = .ok (.iload_n 1, 1) := dk_27 (dk_at dksX7_weight_1 2 rfl rfl)
theorem dX7_weight_27 : decode cX7_weight 27 = .ok (.iload_n 3, 1) := dk_29 (dk_at dksX7_weight_1 3 rfl rfl)
theorem dX7_weight_28 : decode cX7_weight 28 = .ok (.invokevirtual 285, 3) := dk_182 1 29 (dk_at dksX7_weight_1 4 rfl rfl)
theorem dX7_weight_31 : decode cX7_weight 31 = .ok (.iadd, 1) := dk_96 (dk_at dksX7_weight_1 7 rfl rfl)
theorem dX7_weight_32 : decode cX7_weight 32 = .ok (.istore_n 2, 1) := dk_61 (dk_at dksX7_weight_1 8 rfl rfl)
theorem dX7_weight_33 : decode cX7_weight 33 = .ok (.iinc 3 1, 3) := dk_132 3 1 (dk_at dksX7_weight_1 9 rfl rfl)
theorem dX7_weight_36 : decode cX7_weight 36 = .ok (.goto (-20), 3) := dk_167 255 236 (dk_at dksX7_weight_1 12 rfl rfl)
theorem dX7_weight_39 : decode cX7_weight 39 = .ok (.iload_n 2, 1) := dk_28 (dk_at dksX7_weight_1 15 rfl rfl)
theorem dX7_weight_40 : decode cX7_weight 40 = .ok (.ireturn, 1) := dk_172 (dk_at dksX7_weight_1 16 rfl rfl)
abbrev cX7_holds : ByteArray := prog_22_method_64_code
def yX7_holds : MethodName := ⟨RX7, "holds", "(II)I"⟩
def dkwX7_holds_1 : List UInt8 := [182, 1, 35, 153, 0, 7, 4, 167, 0, 4, 3, 172]
abbrev dktX7_holds_1 : List UInt8 := dkwX7_holds_1 ++ []
def dkwX7_holds_0 : List UInt8 := [42, 28, 133, 182, 1, 58, 153, 0, 11, 42, 27, 182, 1, 0, 154, 0, 6, 16, 254, 172, 42, 27, 28]
abbrev dktX7_holds_0 : List UInt8 := dkwX7_holds_0 ++ dktX7_holds_1
theorem dksX7_holds_0 : cX7_holds.data.toList.drop 0 = dktX7_holds_0 := by decide +kernel
theorem dksX7_holds_1 : cX7_holds.data.toList.drop 23 = dktX7_holds_1 := dk_seg dksX7_holds_0 23 rfl rfl
theorem dX7_holds_0 : decode cX7_holds 0 = .ok (.aload_n 0, 1) := dk_42 (dk_at dksX7_holds_0 0 rfl rfl)
theorem dX7_holds_1 : decode cX7_holds 1 = .ok (.iload_n 2, 1) := dk_28 (dk_at dksX7_holds_0 1 rfl rfl)
theorem dX7_holds_2 : decode cX7_holds 2 = .ok (.i2l, 1) := dk_133 (dk_at dksX7_holds_0 2 rfl rfl)
theorem dX7_holds_3 : decode cX7_holds 3 = .ok (.invokevirtual 314, 3) := dk_182 1 58 (dk_at dksX7_holds_0 3 rfl rfl)
theorem dX7_holds_6 : decode cX7_holds 6 = .ok (.ifCond .eq 11, 3) := dk_153 0 11 (dk_at dksX7_holds_0 6 rfl rfl)
theorem dX7_holds_9 : decode cX7_holds 9 = .ok (.aload_n 0, 1) := dk_42 (dk_at dksX7_holds_0 9 rfl rfl)
theorem dX7_holds_10 : decode cX7_holds 10 = .ok (.iload_n 1, 1) := dk_27 (dk_at dksX7_holds_0 10 rfl rfl)
theorem dX7_holds_11 : decode cX7_holds 11 = .ok (.invokevirtual 256, 3) := dk_182 1 0 (dk_at dksX7_holds_0 11 rfl rfl)
theorem dX7_holds_14 : decode cX7_holds 14 = .ok (.ifCond .ne 6, 3) := dk_154 0 6 (dk_at dksX7_holds_0 14 rfl rfl)
theorem dX7_holds_17 : decode cX7_holds 17 = .ok (.bipush (-2), 2) := dk_16 254 (dk_at dksX7_holds_0 17 rfl rfl)
theorem dX7_holds_19 : decode cX7_holds 19 = .ok (.ireturn, 1) := dk_172 (dk_at dksX7_holds_0 19 rfl rfl)
theorem dX7_holds_20 : decode cX7_holds 20 = .ok (.aload_n 0, 1) := dk_42 (dk_at dksX7_holds_0 20 rfl rfl)
theorem dX7_holds_21 : decode cX7_holds 21 = .ok (.iload_n 1, 1) := dk_27 (dk_at dksX7_holds_0 21 rfl rfl)
theorem dX7_holds_22 : decode cX7_holds 22 = .ok (.iload_n 2, 1) := dk_28 (dk_at dksX7_holds_0 22 rfl rfl)
theorem dX7_holds_23 : decode cX7_holds 23 = .ok (.invokevirtual 291, 3) := dk_182 1 35 (dk_at dksX7_holds_1 0 rfl rfl)
theorem dX7_holds_26 : decode cX7_holds 26 = .ok (.ifCond .eq 7, 3) := dk_153 0 7 (dk_at dksX7_holds_1 3 rfl rfl)
theorem dX7_holds_29 : decode cX7_holds 29 = .ok (.iconst 1, 1) := dk_4 (dk_at dksX7_holds_1 6 rfl rfl)
theorem dX7_holds_30 : decode cX7_holds 30 = .ok (.goto 4, 3) := dk_167 0 4 (dk_at dksX7_holds_1 7 rfl rfl)
theorem dX7_holds_33 : decode cX7_holds 33 = .ok (.iconst 0, 1) := dk_3 (dk_at dksX7_holds_1 10 rfl rfl)
theorem dX7_holds_34 : decode cX7_holds 34 = .ok (.ireturn, 1) := dk_172 (dk_at dksX7_holds_1 11 rfl rfl)
abbrev cX7_holdsIn : ByteArray := prog_22_method_52_code
def yX7_holdsIn : MethodName := ⟨RX7, "holdsIn", "(II)Z"⟩
def dkwX7_holdsIn_7 : List UInt8 := [182, 1, 5, 182, 1, 29, 42, 27, 7, 182, 1, 5, 161, 0, 7, 4, 167, 0, 4, 3, 172]
abbrev dktX7_holdsIn_7 : List UInt8 := dkwX7_holdsIn_7 ++ []
def dkwX7_holdsIn_6 : List UInt8 := [182, 1, 29, 163, 0, 7, 4, 167, 0, 4, 3, 172, 29, 21, 4, 161, 0, 23, 42, 28, 42, 27, 6]
abbrev dktX7_holdsIn_6 : List UInt8 := dkwX7_holdsIn_6 ++ dktX7_holdsIn_7
def dkwX7_holdsIn_5 : List UInt8 := [182, 1, 29, 96, 42, 27, 6, 182, 1, 5, 163, 0, 7, 4, 167, 0, 4, 3, 172, 29, 42, 28, 21, 4]
abbrev dktX7_holdsIn_5 : List UInt8 := dkwX7_holdsIn_5 ++ dktX7_holdsIn_6
def dkwX7_holdsIn_4 : List UInt8 := [29, 42, 28, 21, 4, 182, 1, 29, 159, 0, 7, 4, 167, 0, 4, 3, 172, 29, 42, 28, 21, 4]
abbrev dktX7_holdsIn_4 : List UInt8 := dkwX7_holdsIn_4 ++ dktX7_holdsIn_5
def dkwX7_holdsIn_3 : List UInt8 := [29, 21, 4, 163, 0, 7, 4, 167, 0, 4, 3, 172, 29, 21, 4, 161, 0, 7, 4, 167, 0, 4, 3, 172]
abbrev dktX7_holdsIn_3 : List UInt8 := dkwX7_holdsIn_3 ++ dktX7_holdsIn_4
def dkwX7_holdsIn_2 : List UInt8 := [170, 0, 0, 0, 0, 116, 0, 0, 0, 0, 0, 0, 0, 4, 0, 0, 0, 34, 0, 0, 0, 46, 0, 0, 0, 58, 0, 0, 0, 75, 0, 0, 0, 99]
abbrev dktX7_holdsIn_2 : List UInt8 := dkwX7_holdsIn_2 ++ dktX7_holdsIn_3
def dkwX7_holdsIn_1 : List UInt8 := [182, 1, 5]
abbrev dktX7_holdsIn_1 : List UInt8 := dkwX7_holdsIn_1 ++ dktX7_holdsIn_2
def dkwX7_holdsIn_0 : List UInt8 := [42, 28, 42, 27, 4, 182, 1, 5, 182, 1, 29, 62, 42, 27, 5, 182, 1, 5, 54, 4, 42, 27, 3]
abbrev dktX7_holdsIn_0 : List UInt8 := dkwX7_holdsIn_0 ++ dktX7_holdsIn_1
theorem dksX7_holdsIn_0 : cX7_holdsIn.data.toList.drop 0 = dktX7_holdsIn_0 := by decide +kernel
theorem dksX7_holdsIn_1 : cX7_holdsIn.data.toList.drop 23 = dktX7_holdsIn_1 := dk_seg dksX7_holdsIn_0 23 rfl rfl
theorem dksX7_holdsIn_2 : cX7_holdsIn.data.toList.drop 26 = dktX7_holdsIn_2 := dk_seg dksX7_holdsIn_1 3 rfl rfl
theorem dksX7_holdsIn_3 : cX7_holdsIn.data.toList.drop 60 = dktX7_holdsIn_3 := dk_seg dksX7_holdsIn_2 34 rfl rfl
theorem dksX7_holdsIn_4 : cX7_holdsIn.data.toList.drop 84 = dktX7_holdsIn_4 := dk_seg dksX7_holdsIn_3 24 rfl rfl
theorem dksX7_holdsIn_5 : cX7_holdsIn.data.toList.drop 106 = dktX7_holdsIn_5 := dk_seg dksX7_holdsIn_4 22 rfl rfl
theorem dksX7_holdsIn_6 : cX7_holdsIn.data.toList.drop 130 = dktX7_holdsIn_6 := dk_seg dksX7_holdsIn_5 24 rfl rfl
theorem dksX7_holdsIn_7 : cX7_holdsIn.data.toList.drop 153 = dktX7_holdsIn_7 := dk_seg dksX7_holdsIn_6 23 rfl rfl
theorem dX7_holdsIn_0 : decode cX7_holdsIn 0 = .ok (.aload_n 0, 1) := dk_42 (dk_at dksX7_holdsIn_0 0 rfl rfl)
theorem dX7_holdsIn_1 : decode cX7_holdsIn 1 = .ok (.iload_n 2, 1) := dk_28 (dk_at dksX7_holdsIn_0 1 rfl rfl)
theorem dX7_holdsIn_2 : decode cX7_holdsIn 2 = .ok (.aload_n 0, 1) := dk_42 (dk_at dksX7_holdsIn_0 2 rfl rfl)
theorem dX7_holdsIn_3 : decode cX7_holdsIn 3 = .ok (.iload_n 1, 1) := dk_27 (dk_at dksX7_holdsIn_0 3 rfl rfl)
theorem dX7_holdsIn_4 : decode cX7_holdsIn 4 = .ok (.iconst 1, 1) := dk_4 (dk_at dksX7_holdsIn_0 4 rfl rfl)
theorem dX7_holdsIn_5 : decode cX7_holdsIn 5 = .ok (.invokevirtual 261, 3) := dk_182 1 5 (dk_at dksX7_holdsIn_0 5 rfl rfl)
theorem dX7_holdsIn_8 : decode cX7_holdsIn 8 = .ok (.invokevirtual 285, 3) := dk_182 1 29 (dk_at dksX7_holdsIn_0 8 rfl rfl)
theorem dX7_holdsIn_11 : decode cX7_holdsIn 11 = .ok (.istore_n 3, 1) := dk_62 (dk_at dksX7_holdsIn_0 11 rfl rfl)
theorem dX7_holdsIn_12 : decode cX7_holdsIn 12 = .ok (.aload_n 0, 1) := dk_42 (dk_at dksX7_holdsIn_0 12 rfl rfl)
theorem dX7_holdsIn_13 : decode cX7_holdsIn 13 = .ok (.iload_n 1, 1) := dk_27 (dk_at dksX7_holdsIn_0 13 rfl rfl)
theorem dX7_holdsIn_14 : decode cX7_holdsIn 14 = .ok (.iconst 2, 1) := dk_5 (dk_at dksX7_holdsIn_0 14 rfl rfl)
theorem dX7_holdsIn_15 : decode cX7_holdsIn 15 = .ok (.invokevirtual 261, 3) := dk_182 1 5 (dk_at dksX7_holdsIn_0 15 rfl rfl)
theorem dX7_holdsIn_18 : decode cX7_holdsIn 18 = .ok (.istore 4, 2) := dk_54 4 (dk_at dksX7_holdsIn_0 18 rfl rfl)
theorem dX7_holdsIn_20 : decode cX7_holdsIn 20 = .ok (.aload_n 0, 1) := dk_42 (dk_at dksX7_holdsIn_0 20 rfl rfl)
theorem dX7_holdsIn_21 : decode cX7_holdsIn 21 = .ok (.iload_n 1, 1) := dk_27 (dk_at dksX7_holdsIn_0 21 rfl rfl)
theorem dX7_holdsIn_22 : decode cX7_holdsIn 22 = .ok (.iconst 0, 1) := dk_3 (dk_at dksX7_holdsIn_0 22 rfl rfl)
theorem dX7_holdsIn_23 : decode cX7_holdsIn 23 = .ok (.invokevirtual 261, 3) := dk_182 1 5 (dk_at dksX7_holdsIn_1 0 rfl rfl)
theorem dX7_holdsIn_26 : decode cX7_holdsIn 26 = .ok (.tableswitch 116 0 4 #[34, 46, 58, 75, 99], 34) := by decide +kernel
theorem dX7_holdsIn_60 : decode cX7_holdsIn 60 = .ok (.iload_n 3, 1) := dk_29 (dk_at dksX7_holdsIn_3 0 rfl rfl)
theorem dX7_holdsIn_61 : decode cX7_holdsIn 61 = .ok (.iload 4, 2) := dk_21 4 (dk_at dksX7_holdsIn_3 1 rfl rfl)
theorem dX7_holdsIn_63 : decode cX7_holdsIn 63 = .ok (.if_icmp .gt 7, 3) := dk_163 0 7 (dk_at dksX7_holdsIn_3 3 rfl rfl)
theorem dX7_holdsIn_66 : decode cX7_holdsIn 66 = .ok (.iconst 1, 1) := dk_4 (dk_at dksX7_holdsIn_3 6 rfl rfl)
theorem dX7_holdsIn_67 : decode cX7_holdsIn 67 = .ok (.goto 4, 3) := dk_167 0 4 (dk_at dksX7_holdsIn_3 7 rfl rfl)
theorem dX7_holdsIn_70 : decode cX7_holdsIn 70 = .ok (.iconst 0, 1) := dk_3 (dk_at dksX7_holdsIn_3 10 rfl rfl)
theorem dX7_holdsIn_71 : decode cX7_holdsIn 71 = .ok (.ireturn, 1) := dk_172 (dk_at dksX7_holdsIn_3 11 rfl rfl)
theorem dX7_holdsIn_72 : decode cX7_holdsIn 72 = .ok (.iload_n 3, 1) := dk_29 (dk_at dksX7_holdsIn_3 12 rfl rfl)
theorem dX7_holdsIn_73 : decode cX7_holdsIn 73 = .ok (.iload 4, 2) := dk_21 4 (dk_at dksX7_holdsIn_3 13 rfl rfl)
theorem dX7_holdsIn_75 : decode cX7_holdsIn 75 = .ok (.if_icmp .lt 7, 3) := dk_161 0 7 (dk_at dksX7_holdsIn_3 15 rfl rfl)
theorem dX7_holdsIn_78 : decode cX7_holdsIn 78 = .ok (.iconst 1, 1) := dk_4 (dk_at dksX7_holdsIn_3 18 rfl rfl)
theorem dX7_holdsIn_79 : decode cX7_holdsIn 79 = .ok (.goto 4, 3) := dk_167 0 4 (dk_at dksX7_holdsIn_3 19 rfl rfl)
theorem dX7_holdsIn_82 : decode cX7_holdsIn 82 = .ok (.iconst 0, 1) := dk_3 (dk_at dksX7_holdsIn_3 22 rfl rfl)
theorem dX7_holdsIn_83 : decode cX7_holdsIn 83 = .ok (.ireturn, 1) := dk_172 (dk_at dksX7_holdsIn_3 23 rfl rfl)
theorem dX7_holdsIn_84 : decode cX7_holdsIn 84 = .ok (.iload_n 3, 1) := dk_29 (dk_at dksX7_holdsIn_4 0 rfl rfl)
theorem dX7_holdsIn_85 : decode cX7_holdsIn 85 = .ok (.aload_n 0, 1) := dk_42 (dk_at dksX7_holdsIn_4 1 rfl rfl)
theorem dX7_holdsIn_86 : decode cX7_holdsIn 86 = .ok (.iload_n 2, 1) := dk_28 (dk_at dksX7_holdsIn_4 2 rfl rfl)
theorem dX7_holdsIn_87 : decode cX7_holdsIn 87 = .ok (.iload 4, 2) := dk_21 4 (dk_at dksX7_holdsIn_4 3 rfl rfl)
theorem dX7_holdsIn_89 : decode cX7_holdsIn 89 = .ok (.invokevirtual 285, 3) := dk_182 1 29 (dk_at dksX7_holdsIn_4 5 rfl rfl)
theorem dX7_holdsIn_92 : decode cX7_holdsIn 92 = .ok (.if_icmp .eq 7, 3) := dk_159 0 7 (dk_at dksX7_holdsIn_4 8 rfl rfl)
theorem dX7_holdsIn_95 : decode cX7_holdsIn 95 = .ok (.iconst 1, 1) := dk_4 (dk_at dksX7_holdsIn_4 11 rfl rfl)
theorem dX7_holdsIn_96 : decode cX7_holdsIn 96 = .ok (.goto 4, 3) := dk_167 0 4 (dk_at dksX7_holdsIn_4 12 rfl rfl)
theorem dX7_holdsIn_99 : decode cX7_holdsIn 99 = .ok (.iconst 0, 1) := dk_3 (dk_at dksX7_holdsIn_4 15 rfl rfl)
theorem dX7_holdsIn_100 : decode cX7_holdsIn 100 = .ok (.ireturn, 1) := dk_172 (dk_at dksX7_holdsIn_4 16 rfl rfl)
theorem dX7_holdsIn_101 : decode cX7_holdsIn 101 = .ok (.iload_n 3, 1) := dk_29 (dk_at dksX7_holdsIn_4 17 rfl rfl)
theorem dX7_holdsIn_102 : decode cX7_holdsIn 102 = .ok (.aload_n 0, 1) := dk_42 (dk_at dksX7_holdsIn_4 18 rfl rfl)
theorem dX7_holdsIn_103 : decode cX7_holdsIn 103 = .ok (.iload_n 2, 1) := dk_28 (dk_at dksX7_holdsIn_4 19 rfl rfl)
theorem dX7_holdsIn_104 : decode cX7_holdsIn 104 = .ok (.iload 4, 2) := dk_21 4 (dk_at dksX7_holdsIn_4 20 rfl rfl)
theorem dX7_holdsIn_106 : decode cX7_holdsIn 106 = .ok (.invokevirtual 285, 3) := dk_182 1 29 (dk_at dksX7_holdsIn_5 0 rfl rfl)
theorem dX7_holdsIn_109 : decode cX7_holdsIn 109 = .ok (.iadd, 1) := dk_96 (dk_at dksX7_holdsIn_5 3 rfl rfl)
theorem dX7_holdsIn_110 : decode cX7_holdsIn 110 = .ok (.aload_n 0, 1) := dk_42 (dk_at dksX7_holdsIn_5 4 rfl rfl)
theorem dX7_holdsIn_111 : decode cX7_holdsIn 111 = .ok (.iload_n 1, 1) := dk_27 (dk_at dksX7_holdsIn_5 5 rfl rfl)
theorem dX7_holdsIn_112 : decode cX7_holdsIn 112 = .ok (.iconst 3, 1) := dk_6 (dk_at dksX7_holdsIn_5 6 rfl rfl)
theorem dX7_holdsIn_113 : decode cX7_holdsIn 113 = .ok (.invokevirtual 261, 3) := dk_182 1 5 (dk_at dksX7_holdsIn_5 7 rfl rfl)
theorem dX7_holdsIn_116 : decode cX7_holdsIn 116 = .ok (.if_icmp .gt 7, 3) := dk_163 0 7 (dk_at dksX7_holdsIn_5 10 rfl rfl)
theorem dX7_holdsIn_119 : decode cX7_holdsIn 119 = .ok (.iconst 1, 1) := dk_4 (dk_at dksX7_holdsIn_5 13 rfl rfl)
theorem dX7_holdsIn_120 : decode cX7_holdsIn 120 = .ok (.goto 4, 3) := dk_167 0 4 (dk_at dksX7_holdsIn_5 14 rfl rfl)
theorem dX7_holdsIn_123 : decode cX7_holdsIn 123 = .ok (.iconst 0, 1) := dk_3 (dk_at dksX7_holdsIn_5 17 rfl rfl)
theorem dX7_holdsIn_124 : decode cX7_holdsIn 124 = .ok (.ireturn, 1) := dk_172 (dk_at dksX7_holdsIn_5 18 rfl rfl)
theorem dX7_holdsIn_125 : decode cX7_holdsIn 125 = .ok (.iload_n 3, 1) := dk_29 (dk_at dksX7_holdsIn_5 19 rfl rfl)
theorem dX7_holdsIn_126 : decode cX7_holdsIn 126 = .ok (.aload_n 0, 1) := dk_42 (dk_at dksX7_holdsIn_5 20 rfl rfl)
theorem dX7_holdsIn_127 : decode cX7_holdsIn 127 = .ok (.iload_n 2, 1) := dk_28 (dk_at dksX7_holdsIn_5 21 rfl rfl)
theorem dX7_holdsIn_128 : decode cX7_holdsIn 128 = .ok (.iload 4, 2) := dk_21 4 (dk_at dksX7_holdsIn_5 22 rfl rfl)
theorem dX7_holdsIn_130 : decode cX7_holdsIn 130 = .ok (.invokevirtual 285, 3) := dk_182 1 29 (dk_at dksX7_holdsIn_6 0 rfl rfl)
theorem dX7_holdsIn_133 : decode cX7_holdsIn 133 = .ok (.if_icmp .gt 7, 3) := dk_163 0 7 (dk_at dksX7_holdsIn_6 3 rfl rfl)
theorem dX7_holdsIn_136 : decode cX7_holdsIn 136 = .ok (.iconst 1, 1) := dk_4 (dk_at dksX7_holdsIn_6 6 rfl rfl)
theorem dX7_holdsIn_137 : decode cX7_holdsIn 137 = .ok (.goto 4, 3) := dk_167 0 4 (dk_at dksX7_holdsIn_6 7 rfl rfl)
theorem dX7_holdsIn_140 : decode cX7_holdsIn 140 = .ok (.iconst 0, 1) := dk_3 (dk_at dksX7_holdsIn_6 10 rfl rfl)
theorem dX7_holdsIn_141 : decode cX7_holdsIn 141 = .ok (.ireturn, 1) := dk_172 (dk_at dksX7_holdsIn_6 11 rfl rfl)
theorem dX7_holdsIn_142 : decode cX7_holdsIn 142 = .ok (.iload_n 3, 1) := dk_29 (dk_at dksX7_holdsIn_6 12 rfl rfl)
theorem dX7_holdsIn_143 : decode cX7_holdsIn 143 = .ok (.iload 4, 2) := dk_21 4 (dk_at dksX7_holdsIn_6 13 rfl rfl)
theorem dX7_holdsIn_145 : decode cX7_holdsIn 145 = .ok (.if_icmp .lt 23, 3) := dk_161 0 23 (dk_at dksX7_holdsIn_6 15 rfl rfl)
theorem dX7_holdsIn_148 : decode cX7_holdsIn 148 = .ok (.aload_n 0, 1) := dk_42 (dk_at dksX7_holdsIn_6 18 rfl rfl)
theorem dX7_holdsIn_149 : decode cX7_holdsIn 149 = .ok (.iload_n 2, 1) := dk_28 (dk_at dksX7_holdsIn_6 19 rfl rfl)
theorem dX7_holdsIn_150 : decode cX7_holdsIn 150 = .ok (.aload_n 0, 1) := dk_42 (dk_at dksX7_holdsIn_6 20 rfl rfl)
theorem dX7_holdsIn_151 : decode cX7_holdsIn 151 = .ok (.iload_n 1, 1) := dk_27 (dk_at dksX7_holdsIn_6 21 rfl rfl)
theorem dX7_holdsIn_152 : decode cX7_holdsIn 152 = .ok (.iconst 3, 1) := dk_6 (dk_at dksX7_holdsIn_6 22 rfl rfl)
theorem dX7_holdsIn_153 : decode cX7_holdsIn 153 = .ok (.invokevirtual 261, 3) := dk_182 1 5 (dk_at dksX7_holdsIn_7 0 rfl rfl)
theorem dX7_holdsIn_156 : decode cX7_holdsIn 156 = .ok (.invokevirtual 285, 3) := dk_182 1 29 (dk_at dksX7_holdsIn_7 3 rfl rfl)
theorem dX7_holdsIn_159 : decode cX7_holdsIn 159 = .ok (.aload_n 0, 1) := dk_42 (dk_at dksX7_holdsIn_7 6 rfl rfl)
theorem dX7_holdsIn_160 : decode cX7_holdsIn 160 = .ok (.iload_n 1, 1) := dk_27 (dk_at dksX7_holdsIn_7 7 rfl rfl)
theorem dX7_holdsIn_161 : decode cX7_holdsIn 161 = .ok (.iconst 4, 1) := dk_7 (dk_at dksX7_holdsIn_7 8 rfl rfl)
theorem dX7_holdsIn_162 : decode cX7_holdsIn 162 = .ok (.invokevirtual 261, 3) := dk_182 1 5 (dk_at dksX7_holdsIn_7 9 rfl rfl)
theorem dX7_holdsIn_165 : decode cX7_holdsIn 165 = .ok (.if_icmp .lt 7, 3) := dk_161 0 7 (dk_at dksX7_holdsIn_7 12 rfl rfl)
theorem dX7_holdsIn_168 : decode cX7_holdsIn 168 = .ok (.iconst 1, 1) := dk_4 (dk_at dksX7_holdsIn_7 15 rfl rfl)
theorem dX7_holdsIn_169 : decode cX7_holdsIn 169 = .ok (.goto 4, 3) := dk_167 0 4 (dk_at dksX7_holdsIn_7 16 rfl rfl)
theorem dX7_holdsIn_172 : decode cX7_holdsIn 172 = .ok (.iconst 0, 1) := dk_3 (dk_at dksX7_holdsIn_7 19 rfl rfl)
theorem dX7_holdsIn_173 : decode cX7_holdsIn 173 = .ok (.ireturn, 1) := dk_172 (dk_at dksX7_holdsIn_7 20 rfl rfl)
abbrev cX7_dropped : ByteArray := prog_22_method_65_code
def yX7_dropped : MethodName := ⟨RX7, "dropped", "()I"⟩
def dkwX7_dropped_0 : List UInt8 := [42, 182, 1, 62, 153, 0, 10, 42, 180, 1, 26, 167, 0, 5, 16, 254, 172]
abbrev dktX7_dropped_0 : List UInt8 := dkwX7_dropped_0 ++ []
theorem dksX7_dropped_0 : cX7_dropped.data.toList.drop 0 = dktX7_dropped_0 := by decide +kernel
theorem dX7_dropped_0 : decode cX7_dropped 0 = .ok (.aload_n 0, 1) := dk_42 (dk_at dksX7_dropped_0 0 rfl rfl)
theorem dX7_dropped_1 : decode cX7_dropped 1 = .ok (.invokevirtual 318, 3) := dk_182 1 62 (dk_at dksX7_dropped_0 1 rfl rfl)
theorem dX7_dropped_4 : decode cX7_dropped 4 = .ok (.ifCond .eq 10, 3) := dk_153 0 10 (dk_at dksX7_dropped_0 4 rfl rfl)
theorem dX7_dropped_7 : decode cX7_dropped 7 = .ok (.aload_n 0, 1) := dk_42 (dk_at dksX7_dropped_0 7 rfl rfl)
theorem dX7_dropped_8 : decode cX7_dropped 8 = .ok (.getfield 282, 3) := dk_180 1 26 (dk_at dksX7_dropped_0 8 rfl rfl)
theorem dX7_dropped_11 : decode cX7_dropped 11 = .ok (.goto 5, 3) := dk_167 0 5 (dk_at dksX7_dropped_0 11 rfl rfl)
theorem dX7_dropped_14 : decode cX7_dropped 14 = .ok (.bipush (-2), 2) := dk_16 254 (dk_at dksX7_dropped_0 14 rfl rfl)
theorem dX7_dropped_16 : decode cX7_dropped 16 = .ok (.ireturn, 1) := dk_172 (dk_at dksX7_dropped_0 16 rfl rfl)
abbrev cX7_asks : ByteArray := prog_22_method_59_code
def yX7_asks : MethodName := ⟨RX7, "asks", "()Z"⟩
def dkwX7_asks_0 : List UInt8 := [42, 182, 1, 52, 42, 182, 0, 92, 154, 0, 5, 3, 172, 42, 182, 1, 55, 4, 172]
abbrev dktX7_asks_0 : List UInt8 := dkwX7_asks_0 ++ []
theorem dksX7_asks_0 : cX7_asks.data.toList.drop 0 = dktX7_asks_0 := by decide +kernel
theorem dX7_asks_0 : decode cX7_asks 0 = .ok (.aload_n 0, 1) := dk_42 (dk_at dksX7_asks_0 0 rfl rfl)
theorem dX7_asks_1 : decode cX7_asks 1 = .ok (.invokevirtual 308, 3) := dk_182 1 52 (dk_at dksX7_asks_0 1 rfl rfl)
theorem dX7_asks_4 : decode cX7_asks 4 = .ok (.aload_n 0, 1) := dk_42 (dk_at dksX7_asks_0 4 rfl rfl)
theorem dX7_asks_5 : decode cX7_asks 5 = .ok (.invokevirtual 92, 3) := dk_182 0 92 (dk_at dksX7_asks_0 5 rfl rfl)
theorem dX7_asks_8 : decode cX7_asks 8 = .ok (.ifCond .ne 5, 3) := dk_154 0 5 (dk_at dksX7_asks_0 8 rfl rfl)
theorem dX7_asks_11 : decode cX7_asks 11 = .ok (.iconst 0, 1) := dk_3 (dk_at dksX7_asks_0 11 rfl rfl)
theorem dX7_asks_12 : decode cX7_asks 12 = .ok (.ireturn, 1) := dk_172 (dk_at dksX7_asks_0 12 rfl rfl)
theorem dX7_asks_13 : decode cX7_asks 13 = .ok (.aload_n 0, 1) := dk_42 (dk_at dksX7_asks_0 13 rfl rfl)
theorem dX7_asks_14 : decode cX7_asks 14 = .ok (.invokevirtual 311, 3) := dk_182 1 55 (dk_at dksX7_asks_0 14 rfl rfl)
theorem dX7_asks_17 : decode cX7_asks 17 = .ok (.iconst 1, 1) := dk_4 (dk_at dksX7_asks_0 17 rfl rfl)
theorem dX7_asks_18 : decode cX7_asks 18 = .ok (.ireturn, 1) := dk_172 (dk_at dksX7_asks_0 18 rfl rfl)
abbrev cX7_asItIs : ByteArray := prog_22_method_50_code
def yX7_asItIs : MethodName := ⟨RX7, "asItIs", "()V"⟩
def dkwX7_asItIs_6 : List UInt8 := [132, 1, 1, 167, 255, 163, 177]
abbrev dktX7_asItIs_6 : List UInt8 := dkwX7_asItIs_6 ++ []
def dkwX7_asItIs_5 : List UInt8 := [126, 181, 1, 23, 167, 0, 18, 42, 89, 180, 1, 23, 4, 28, 16, 100, 100, 120, 128, 181, 1, 23]
abbrev dktX7_asItIs_5 : List UInt8 := dkwX7_asItIs_5 ++ dktX7_asItIs_6
def dkwX7_asItIs_4 : List UInt8 := [167, 0, 46, 28, 17, 0, 200, 161, 0, 24, 42, 89, 180, 1, 23, 4, 28, 17, 0, 200, 100, 120, 2, 130]
abbrev dktX7_asItIs_4 : List UInt8 := dkwX7_asItIs_4 ++ dktX7_asItIs_5
def dkwX7_asItIs_3 : List UInt8 := [17, 1, 44, 161, 0, 22, 42, 89, 180, 1, 26, 4, 28, 17, 1, 44, 100, 120, 128, 181, 1, 26]
abbrev dktX7_asItIs_3 : List UInt8 := dkwX7_asItIs_3 ++ dktX7_asItIs_4
def dkwX7_asItIs_2 : List UInt8 := [3, 60, 27, 42, 180, 0, 9, 16, 6, 46, 162, 0, 88, 42, 180, 0, 9, 16, 56, 27, 96, 46, 61, 28]
abbrev dktX7_asItIs_2 : List UInt8 := dkwX7_asItIs_2 ++ dktX7_asItIs_3
def dkwX7_asItIs_1 : List UInt8 := [162, 0, 24, 42, 180, 0, 34, 27, 42, 180, 0, 9, 16, 8, 27, 96, 46, 79, 132, 1, 1, 167, 255, 233]
abbrev dktX7_asItIs_1 : List UInt8 := dkwX7_asItIs_1 ++ dktX7_asItIs_2
def dkwX7_asItIs_0 : List UInt8 := [42, 42, 180, 0, 9, 4, 46, 181, 1, 20, 42, 3, 181, 1, 23, 42, 3, 181, 1, 26, 3, 60, 27, 6]
abbrev dktX7_asItIs_0 : List UInt8 := dkwX7_asItIs_0 ++ dktX7_asItIs_1
theorem dksX7_asItIs_0 : cX7_asItIs.data.toList.drop 0 = dktX7_asItIs_0 := by decide +kernel
theorem dksX7_asItIs_1 : cX7_asItIs.data.toList.drop 24 = dktX7_asItIs_1 := dk_seg dksX7_asItIs_0 24 rfl rfl
theorem dksX7_asItIs_2 : cX7_asItIs.data.toList.drop 48 = dktX7_asItIs_2 := dk_seg dksX7_asItIs_1 24 rfl rfl
theorem dksX7_asItIs_3 : cX7_asItIs.data.toList.drop 72 = dktX7_asItIs_3 := dk_seg dksX7_asItIs_2 24 rfl rfl
theorem dksX7_asItIs_4 : cX7_asItIs.data.toList.drop 94 = dktX7_asItIs_4 := dk_seg dksX7_asItIs_3 22 rfl rfl
theorem dksX7_asItIs_5 : cX7_asItIs.data.toList.drop 118 = dktX7_asItIs_5 := dk_seg dksX7_asItIs_4 24 rfl rfl
theorem dksX7_asItIs_6 : cX7_asItIs.data.toList.drop 140 = dktX7_asItIs_6 := dk_seg dksX7_asItIs_5 22 rfl rfl
theorem dX7_asItIs_0 : decode cX7_asItIs 0 = .ok (.aload_n 0, 1) := dk_42 (dk_at dksX7_asItIs_0 0 rfl rfl)
theorem dX7_asItIs_1 : decode cX7_asItIs 1 = .ok (.aload_n 0, 1) := dk_42 (dk_at dksX7_asItIs_0 1 rfl rfl)
theorem dX7_asItIs_2 : decode cX7_asItIs 2 = .ok (.getfield 9, 3) := dk_180 0 9 (dk_at dksX7_asItIs_0 2 rfl rfl)
theorem dX7_asItIs_5 : decode cX7_asItIs 5 = .ok (.iconst 1, 1) := dk_4 (dk_at dksX7_asItIs_0 5 rfl rfl)
theorem dX7_asItIs_6 : decode cX7_asItIs 6 = .ok (.iaload, 1) := dk_46 (dk_at dksX7_asItIs_0 6 rfl rfl)
theorem dX7_asItIs_7 : decode cX7_asItIs 7 = .ok (.putfield 276, 3) := dk_181 1 20 (dk_at dksX7_asItIs_0 7 rfl rfl)
theorem dX7_asItIs_10 : decode cX7_asItIs 10 = .ok (.aload_n 0, 1) := dk_42 (dk_at dksX7_asItIs_0 10 rfl rfl)
theorem dX7_asItIs_11 : decode cX7_asItIs 11 = .ok (.iconst 0, 1) := dk_3 (dk_at dksX7_asItIs_0 11 rfl rfl)
theorem dX7_asItIs_12 : decode cX7_asItIs 12 = .ok (.putfield 279, 3) := dk_181 1 23 (dk_at dksX7_asItIs_0 12 rfl rfl)
theorem dX7_asItIs_15 : decode cX7_asItIs 15 = .ok (.aload_n 0, 1) := dk_42 (dk_at dksX7_asItIs_0 15 rfl rfl)
theorem dX7_asItIs_16 : decode cX7_asItIs 16 = .ok (.iconst 0, 1) := dk_3 (dk_at dksX7_asItIs_0 16 rfl rfl)
theorem dX7_asItIs_17 : decode cX7_asItIs 17 = .ok (.putfield 282, 3) := dk_181 1 26 (dk_at dksX7_asItIs_0 17 rfl rfl)
theorem dX7_asItIs_20 : decode cX7_asItIs 20 = .ok (.iconst 0, 1) := dk_3 (dk_at dksX7_asItIs_0 20 rfl rfl)
theorem dX7_asItIs_21 : decode cX7_asItIs 21 = .ok (.istore_n 1, 1) := dk_60 (dk_at dksX7_asItIs_0 21 rfl rfl)
theorem dX7_asItIs_22 : decode cX7_asItIs 22 = .ok (.iload_n 1, 1) := dk_27 (dk_at dksX7_asItIs_0 22 rfl rfl)
theorem dX7_asItIs_23 : decode cX7_asItIs 23 = .ok (.iconst 3, 1) := dk_6 (dk_at dksX7_asItIs_0 23 rfl rfl)
theorem dX7_asItIs_24 : decode cX7_asItIs 24 = .ok (.if_icmp .ge 24, 3) := dk_162 0 24 (dk_at dksX7_asItIs_1 0 rfl rfl)
theorem dX7_asItIs_27 : decode cX7_asItIs 27 = .ok (.aload_n 0, 1) := dk_42 (dk_at dksX7_asItIs_1 3 rfl rfl)
theorem dX7_asItIs_28 : decode cX7_asItIs 28 = .ok (.getfield 34, 3) := dk_180 0 34 (dk_at dksX7_asItIs_1 4 rfl rfl)
theorem dX7_asItIs_31 : decode cX7_asItIs 31 = .ok (.iload_n 1, 1) := dk_27 (dk_at dksX7_asItIs_1 7 rfl rfl)
theorem dX7_asItIs_32 : decode cX7_asItIs 32 = .ok (.aload_n 0, 1) := dk_42 (dk_at dksX7_asItIs_1 8 rfl rfl)
theorem dX7_asItIs_33 : decode cX7_asItIs 33 = .ok (.getfield 9, 3) := dk_180 0 9 (dk_at dksX7_asItIs_1 9 rfl rfl)
theorem dX7_asItIs_36 : decode cX7_asItIs 36 = .ok (.bipush 8, 2) := dk_16 8 (dk_at dksX7_asItIs_1 12 rfl rfl)
theorem dX7_asItIs_38 : decode cX7_asItIs 38 = .ok (.iload_n 1, 1) := dk_27 (dk_at dksX7_asItIs_1 14 rfl rfl)
theorem dX7_asItIs_39 : decode cX7_asItIs 39 = .ok (.iadd, 1) := dk_96 (dk_at dksX7_asItIs_1 15 rfl rfl)
theorem dX7_asItIs_40 : decode cX7_asItIs 40 = .ok (.iaload, 1) := dk_46 (dk_at dksX7_asItIs_1 16 rfl rfl)
theorem dX7_asItIs_41 : decode cX7_asItIs 41 = .ok (.iastore, 1) := dk_79 (dk_at dksX7_asItIs_1 17 rfl rfl)
theorem dX7_asItIs_42 : decode cX7_asItIs 42 = .ok (.iinc 1 1, 3) := dk_132 1 1 (dk_at dksX7_asItIs_1 18 rfl rfl)
theorem dX7_asItIs_45 : decode cX7_asItIs 45 = .ok (.goto (-23), 3) := dk_167 255 233 (dk_at dksX7_asItIs_1 21 rfl rfl)
theorem dX7_asItIs_48 : decode cX7_asItIs 48 = .ok (.iconst 0, 1) := dk_3 (dk_at dksX7_asItIs_2 0 rfl rfl)
theorem dX7_asItIs_49 : decode cX7_asItIs 49 = .ok (.istore_n 1, 1) := dk_60 (dk_at dksX7_asItIs_2 1 rfl rfl)
theorem dX7_asItIs_50 : decode cX7_asItIs 50 = .ok (.iload_n 1, 1) := dk_27 (dk_at dksX7_asItIs_2 2 rfl rfl)
theorem dX7_asItIs_51 : decode cX7_asItIs 51 = .ok (.aload_n 0, 1) := dk_42 (dk_at dksX7_asItIs_2 3 rfl rfl)
theorem dX7_asItIs_52 : decode cX7_asItIs 52 = .ok (.getfield 9, 3) := dk_180 0 9 (dk_at dksX7_asItIs_2 4 rfl rfl)
theorem dX7_asItIs_55 : decode cX7_asItIs 55 = .ok (.bipush 6, 2) := dk_16 6 (dk_at dksX7_asItIs_2 7 rfl rfl)
theorem dX7_asItIs_57 : decode cX7_asItIs 57 = .ok (.iaload, 1) := dk_46 (dk_at dksX7_asItIs_2 9 rfl rfl)
theorem dX7_asItIs_58 : decode cX7_asItIs 58 = .ok (.if_icmp .ge 88, 3) := dk_162 0 88 (dk_at dksX7_asItIs_2 10 rfl rfl)
theorem dX7_asItIs_61 : decode cX7_asItIs 61 = .ok (.aload_n 0, 1) := dk_42 (dk_at dksX7_asItIs_2 13 rfl rfl)
theorem dX7_asItIs_62 : decode cX7_asItIs 62 = .ok (.getfield 9, 3) := dk_180 0 9 (dk_at dksX7_asItIs_2 14 rfl rfl)
theorem dX7_asItIs_65 : decode cX7_asItIs 65 = .ok (.bipush 56, 2) := dk_16 56 (dk_at dksX7_asItIs_2 17 rfl rfl)
theorem dX7_asItIs_67 : decode cX7_asItIs 67 = .ok (.iload_n 1, 1) := dk_27 (dk_at dksX7_asItIs_2 19 rfl rfl)
theorem dX7_asItIs_68 : decode cX7_asItIs 68 = .ok (.iadd, 1) := dk_96 (dk_at dksX7_asItIs_2 20 rfl rfl)
theorem dX7_asItIs_69 : decode cX7_asItIs 69 = .ok (.iaload, 1) := dk_46 (dk_at dksX7_asItIs_2 21 rfl rfl)
theorem dX7_asItIs_70 : decode cX7_asItIs 70 = .ok (.istore_n 2, 1) := dk_61 (dk_at dksX7_asItIs_2 22 rfl rfl)
theorem dX7_asItIs_71 : decode cX7_asItIs 71 = .ok (.iload_n 2, 1) := dk_28 (dk_at dksX7_asItIs_2 23 rfl rfl)
theorem dX7_asItIs_72 : decode cX7_asItIs 72 = .ok (.sipush 300, 3) := dk_17 1 44 (dk_at dksX7_asItIs_3 0 rfl rfl)
theorem dX7_asItIs_75 : decode cX7_asItIs 75 = .ok (.if_icmp .lt 22, 3) := dk_161 0 22 (dk_at dksX7_asItIs_3 3 rfl rfl)
theorem dX7_asItIs_78 : decode cX7_asItIs 78 = .ok (.aload_n 0, 1) := dk_42 (dk_at dksX7_asItIs_3 6 rfl rfl)
theorem dX7_asItIs_79 : decode cX7_asItIs 79 = .ok (.dup, 1) := dk_89 (dk_at dksX7_asItIs_3 7 rfl rfl)
theorem dX7_asItIs_80 : decode cX7_asItIs 80 = .ok (.getfield 282, 3) := dk_180 1 26 (dk_at dksX7_asItIs_3 8 rfl rfl)
theorem dX7_asItIs_83 : decode cX7_asItIs 83 = .ok (.iconst 1, 1) := dk_4 (dk_at dksX7_asItIs_3 11 rfl rfl)
theorem dX7_asItIs_84 : decode cX7_asItIs 84 = .ok (.iload_n 2, 1) := dk_28 (dk_at dksX7_asItIs_3 12 rfl rfl)
theorem dX7_asItIs_85 : decode cX7_asItIs 85 = .ok (.sipush 300, 3) := dk_17 1 44 (dk_at dksX7_asItIs_3 13 rfl rfl)
theorem dX7_asItIs_88 : decode cX7_asItIs 88 = .ok (.isub, 1) := dk_100 (dk_at dksX7_asItIs_3 16 rfl rfl)
theorem dX7_asItIs_89 : decode cX7_asItIs 89 = .ok (.ishl, 1) := dk_120 (dk_at dksX7_asItIs_3 17 rfl rfl)
theorem dX7_asItIs_90 : decode cX7_asItIs 90 = .ok (.ior, 1) := dk_128 (dk_at dksX7_asItIs_3 18 rfl rfl)
theorem dX7_asItIs_91 : decode cX7_asItIs 91 = .ok (.putfield 282, 3) := dk_181 1 26 (dk_at dksX7_asItIs_3 19 rfl rfl)
theorem dX7_asItIs_94 : decode cX7_asItIs 94 = .ok (.goto 46, 3) := dk_167 0 46 (dk_at dksX7_asItIs_4 0 rfl rfl)
theorem dX7_asItIs_97 : decode cX7_asItIs 97 = .ok (.iload_n 2, 1) := dk_28 (dk_at dksX7_asItIs_4 3 rfl rfl)
theorem dX7_asItIs_98 : decode cX7_asItIs 98 = .ok (.sipush 200, 3) := dk_17 0 200 (dk_at dksX7_asItIs_4 4 rfl rfl)
theorem dX7_asItIs_101 : decode cX7_asItIs 101 = .ok (.if_icmp .lt 24, 3) := dk_161 0 24 (dk_at dksX7_asItIs_4 7 rfl rfl)
theorem dX7_asItIs_104 : decode cX7_asItIs 104 = .ok (.aload_n 0, 1) := dk_42 (dk_at dksX7_asItIs_4 10 rfl rfl)
theorem dX7_asItIs_105 : decode cX7_asItIs 105 = .ok (.dup, 1) := dk_89 (dk_at dksX7_asItIs_4 11 rfl rfl)
theorem dX7_asItIs_106 : decode cX7_asItIs 106 = .ok (.getfield 279, 3) := dk_180 1 23 (dk_at dksX7_asItIs_4 12 rfl rfl)
theorem dX7_asItIs_109 : decode cX7_asItIs 109 = .ok (.iconst 1, 1) := dk_4 (dk_at dksX7_asItIs_4 15 rfl rfl)
theorem dX7_asItIs_110 : decode cX7_asItIs 110 = .ok (.iload_n 2, 1) := dk_28 (dk_at dksX7_asItIs_4 16 rfl rfl)
theorem dX7_asItIs_111 : decode cX7_asItIs 111 = .ok (.sipush 200, 3) := dk_17 0 200 (dk_at dksX7_asItIs_4 17 rfl rfl)
theorem dX7_asItIs_114 : decode cX7_asItIs 114 = .ok (.isub, 1) := dk_100 (dk_at dksX7_asItIs_4 20 rfl rfl)
theorem dX7_asItIs_115 : decode cX7_asItIs 115 = .ok (.ishl, 1) := dk_120 (dk_at dksX7_asItIs_4 21 rfl rfl)
theorem dX7_asItIs_116 : decode cX7_asItIs 116 = .ok (.iconst (-1), 1) := dk_2 (dk_at dksX7_asItIs_4 22 rfl rfl)
theorem dX7_asItIs_117 : decode cX7_asItIs 117 = .ok (.ixor, 1) := dk_130 (dk_at dksX7_asItIs_4 23 rfl rfl)
theorem dX7_asItIs_118 : decode cX7_asItIs 118 = .ok (.iand, 1) := dk_126 (dk_at dksX7_asItIs_5 0 rfl rfl)
theorem dX7_asItIs_119 : decode cX7_asItIs 119 = .ok (.putfield 279, 3) := dk_181 1 23 (dk_at dksX7_asItIs_5 1 rfl rfl)
theorem dX7_asItIs_122 : decode cX7_asItIs 122 = .ok (.goto 18, 3) := dk_167 0 18 (dk_at dksX7_asItIs_5 4 rfl rfl)
theorem dX7_asItIs_125 : decode cX7_asItIs 125 = .ok (.aload_n 0, 1) := dk_42 (dk_at dksX7_asItIs_5 7 rfl rfl)
theorem dX7_asItIs_126 : decode cX7_asItIs 126 = .ok (.dup, 1) := dk_89 (dk_at dksX7_asItIs_5 8 rfl rfl)
theorem dX7_asItIs_127 : decode cX7_asItIs 127 = .ok (.getfield 279, 3) := dk_180 1 23 (dk_at dksX7_asItIs_5 9 rfl rfl)
theorem dX7_asItIs_130 : decode cX7_asItIs 130 = .ok (.iconst 1, 1) := dk_4 (dk_at dksX7_asItIs_5 12 rfl rfl)
theorem dX7_asItIs_131 : decode cX7_asItIs 131 = .ok (.iload_n 2, 1) := dk_28 (dk_at dksX7_asItIs_5 13 rfl rfl)
theorem dX7_asItIs_132 : decode cX7_asItIs 132 = .ok (.bipush 100, 2) := dk_16 100 (dk_at dksX7_asItIs_5 14 rfl rfl)
theorem dX7_asItIs_134 : decode cX7_asItIs 134 = .ok (.isub, 1) := dk_100 (dk_at dksX7_asItIs_5 16 rfl rfl)
theorem dX7_asItIs_135 : decode cX7_asItIs 135 = .ok (.ishl, 1) := dk_120 (dk_at dksX7_asItIs_5 17 rfl rfl)
theorem dX7_asItIs_136 : decode cX7_asItIs 136 = .ok (.ior, 1) := dk_128 (dk_at dksX7_asItIs_5 18 rfl rfl)
theorem dX7_asItIs_137 : decode cX7_asItIs 137 = .ok (.putfield 279, 3) := dk_181 1 23 (dk_at dksX7_asItIs_5 19 rfl rfl)
theorem dX7_asItIs_140 : decode cX7_asItIs 140 = .ok (.iinc 1 1, 3) := dk_132 1 1 (dk_at dksX7_asItIs_6 0 rfl rfl)
theorem dX7_asItIs_143 : decode cX7_asItIs 143 = .ok (.goto (-93), 3) := dk_167 255 163 (dk_at dksX7_asItIs_6 3 rfl rfl)
theorem dX7_asItIs_146 : decode cX7_asItIs 146 = .ok (.return_, 1) := dk_177 (dk_at dksX7_asItIs_6 6 rfl rfl)
abbrev cX7_layStates : ByteArray := prog_22_method_57_code
def yX7_layStates : MethodName := ⟨RX7, "layStates", "()V"⟩
def dkwX7_layStates_3 : List UInt8 := [79, 132, 2, 1, 167, 255, 228, 132, 1, 1, 167, 255, 212, 177]
abbrev dktX7_layStates_3 : List UInt8 := dkwX7_layStates_3 ++ []
def dkwX7_layStates_2 : List UInt8 := [28, 42, 182, 0, 96, 162, 0, 26, 42, 180, 0, 40, 16, 64, 27, 104, 28, 96, 42, 27, 28, 182, 1, 49]
abbrev dktX7_layStates_2 : List UInt8 := dkwX7_layStates_2 ++ dktX7_layStates_3
def dkwX7_layStates_1 : List UInt8 := [4, 167, 0, 4, 3, 84, 132, 1, 1, 167, 255, 225, 3, 60, 27, 42, 182, 0, 84, 162, 0, 42, 3, 61]
abbrev dktX7_layStates_1 : List UInt8 := dkwX7_layStates_1 ++ dktX7_layStates_2
def dkwX7_layStates_0 : List UInt8 := [3, 60, 27, 42, 182, 0, 96, 162, 0, 29, 42, 180, 0, 37, 27, 42, 27, 182, 1, 46, 2, 160, 0, 7]
abbrev dktX7_layStates_0 : List UInt8 := dkwX7_layStates_0 ++ dktX7_layStates_1
theorem dksX7_layStates_0 : cX7_layStates.data.toList.drop 0 = dktX7_layStates_0 := by decide +kernel
theorem dksX7_layStates_1 : cX7_layStates.data.toList.drop 24 = dktX7_layStates_1 := dk_seg dksX7_layStates_0 24 rfl rfl
theorem dksX7_layStates_2 : cX7_layStates.data.toList.drop 48 = dktX7_layStates_2 := dk_seg dksX7_layStates_1 24 rfl rfl
theorem dksX7_layStates_3 : cX7_layStates.data.toList.drop 72 = dktX7_layStates_3 := dk_seg dksX7_layStates_2 24 rfl rfl
theorem dX7_layStates_0 : decode cX7_layStates 0 = .ok (.iconst 0, 1) := dk_3 (dk_at dksX7_layStates_0 0 rfl rfl)
theorem dX7_layStates_1 : decode cX7_layStates 1 = .ok (.istore_n 1, 1) := dk_60 (dk_at dksX7_layStates_0 1 rfl rfl)
theorem dX7_layStates_2 : decode cX7_layStates 2 = .ok (.iload_n 1, 1) := dk_27 (dk_at dksX7_layStates_0 2 rfl rfl)
theorem dX7_layStates_3 : decode cX7_layStates 3 = .ok (.aload_n 0, 1) := dk_42 (dk_at dksX7_layStates_0 3 rfl rfl)
theorem dX7_layStates_4 : decode cX7_layStates 4 = .ok (.invokevirtual 96, 3) := dk_182 0 96 (dk_at dksX7_layStates_0 4 rfl rfl)
theorem dX7_layStates_7 : decode cX7_layStates 7 = .ok (.if_icmp .ge 29, 3) := dk_162 0 29 (dk_at dksX7_layStates_0 7 rfl rfl)
theorem dX7_layStates_10 : decode cX7_layStates 10 = .ok (.aload_n 0, 1) := dk_42 (dk_at dksX7_layStates_0 10 rfl rfl)
theorem dX7_layStates_11 : decode cX7_layStates 11 = .ok (.getfield 37, 3) := dk_180 0 37 (dk_at dksX7_layStates_0 11 rfl rfl)
theorem dX7_layStates_14 : decode cX7_layStates 14 = .ok (.iload_n 1, 1) := dk_27 (dk_at dksX7_layStates_0 14 rfl rfl)
theorem dX7_layStates_15 : decode cX7_layStates 15 = .ok (.aload_n 0, 1) := dk_42 (dk_at dksX7_layStates_0 15 rfl rfl)
theorem dX7_layStates_16 : decode cX7_layStates 16 = .ok (.iload_n 1, 1) := dk_27 (dk_at dksX7_layStates_0 16 rfl rfl)
theorem dX7_layStates_17 : decode cX7_layStates 17 = .ok (.invokevirtual 302, 3) := dk_182 1 46 (dk_at dksX7_layStates_0 17 rfl rfl)
theorem dX7_layStates_20 : decode cX7_layStates 20 = .ok (.iconst (-1), 1) := dk_2 (dk_at dksX7_layStates_0 20 rfl rfl)
theorem dX7_layStates_21 : decode cX7_layStates 21 = .ok (.if_icmp .ne 7, 3) := dk_160 0 7 (dk_at dksX7_layStates_0 21 rfl rfl)
theorem dX7_layStates_24 : decode cX7_layStates 24 = .ok (.iconst 1, 1) := dk_4 (dk_at dksX7_layStates_1 0 rfl rfl)
theorem dX7_layStates_25 : decode cX7_layStates 25 = .ok (.goto 4, 3) := dk_167 0 4 (dk_at dksX7_layStates_1 1 rfl rfl)
theorem dX7_layStates_28 : decode cX7_layStates 28 = .ok (.iconst 0, 1) := dk_3 (dk_at dksX7_layStates_1 4 rfl rfl)
theorem dX7_layStates_29 : decode cX7_layStates 29 = .ok (.bastore, 1) := dk_84 (dk_at dksX7_layStates_1 5 rfl rfl)
theorem dX7_layStates_30 : decode cX7_layStates 30 = .ok (.iinc 1 1, 3) := dk_132 1 1 (dk_at dksX7_layStates_1 6 rfl rfl)
theorem dX7_layStates_33 : decode cX7_layStates 33 = .ok (.goto (-31), 3) := dk_167 255 225 (dk_at dksX7_layStates_1 9 rfl rfl)
theorem dX7_layStates_36 : decode cX7_layStates 36 = .ok (.iconst 0, 1) := dk_3 (dk_at dksX7_layStates_1 12 rfl rfl)
theorem dX7_layStates_37 : decode cX7_layStates 37 = .ok (.istore_n 1, 1) := dk_60 (dk_at dksX7_layStates_1 13 rfl rfl)
theorem dX7_layStates_38 : decode cX7_layStates 38 = .ok (.iload_n 1, 1) := dk_27 (dk_at dksX7_layStates_1 14 rfl rfl)
theorem dX7_layStates_39 : decode cX7_layStates 39 = .ok (.aload_n 0, 1) := dk_42 (dk_at dksX7_layStates_1 15 rfl rfl)
theorem dX7_layStates_40 : decode cX7_layStates 40 = .ok (.invokevirtual 84, 3) := dk_182 0 84 (dk_at dksX7_layStates_1 16 rfl rfl)
theorem dX7_layStates_43 : decode cX7_layStates 43 = .ok (.if_icmp .ge 42, 3) := dk_162 0 42 (dk_at dksX7_layStates_1 19 rfl rfl)
theorem dX7_layStates_46 : decode cX7_layStates 46 = .ok (.iconst 0, 1) := dk_3 (dk_at dksX7_layStates_1 22 rfl rfl)
theorem dX7_layStates_47 : decode cX7_layStates 47 = .ok (.istore_n 2, 1) := dk_61 (dk_at dksX7_layStates_1 23 rfl rfl)
theorem dX7_layStates_48 : decode cX7_layStates 48 = .ok (.iload_n 2, 1) := dk_28 (dk_at dksX7_layStates_2 0 rfl rfl)
theorem dX7_layStates_49 : decode cX7_layStates 49 = .ok (.aload_n 0, 1) := dk_42 (dk_at dksX7_layStates_2 1 rfl rfl)
theorem dX7_layStates_50 : decode cX7_layStates 50 = .ok (.invokevirtual 96, 3) := dk_182 0 96 (dk_at dksX7_layStates_2 2 rfl rfl)
theorem dX7_layStates_53 : decode cX7_layStates 53 = .ok (.if_icmp .ge 26, 3) := dk_162 0 26 (dk_at dksX7_layStates_2 5 rfl rfl)
theorem dX7_layStates_56 : decode cX7_layStates 56 = .ok (.aload_n 0, 1) := dk_42 (dk_at dksX7_layStates_2 8 rfl rfl)
theorem dX7_layStates_57 : decode cX7_layStates 57 = .ok (.getfield 40, 3) := dk_180 0 40 (dk_at dksX7_layStates_2 9 rfl rfl)
theorem dX7_layStates_60 : decode cX7_layStates 60 = .ok (.bipush 64, 2) := dk_16 64 (dk_at dksX7_layStates_2 12 rfl rfl)
theorem dX7_layStates_62 : decode cX7_layStates 62 = .ok (.iload_n 1, 1) := dk_27 (dk_at dksX7_layStates_2 14 rfl rfl)
theorem dX7_layStates_63 : decode cX7_layStates 63 = .ok (.imul, 1) := dk_104 (dk_at dksX7_layStates_2 15 rfl rfl)
theorem dX7_layStates_64 : decode cX7_layStates 64 = .ok (.iload_n 2, 1) := dk_28 (dk_at dksX7_layStates_2 16 rfl rfl)
theorem dX7_layStates_65 : decode cX7_layStates 65 = .ok (.iadd, 1) := dk_96 (dk_at dksX7_layStates_2 17 rfl rfl)
theorem dX7_layStates_66 : decode cX7_layStates 66 = .ok (.aload_n 0, 1) := dk_42 (dk_at dksX7_layStates_2 18 rfl rfl)
theorem dX7_layStates_67 : decode cX7_layStates 67 = .ok (.iload_n 1, 1) := dk_27 (dk_at dksX7_layStates_2 19 rfl rfl)
theorem dX7_layStates_68 : decode cX7_layStates 68 = .ok (.iload_n 2, 1) := dk_28 (dk_at dksX7_layStates_2 20 rfl rfl)
theorem dX7_layStates_69 : decode cX7_layStates 69 = .ok (.invokevirtual 305, 3) := dk_182 1 49 (dk_at dksX7_layStates_2 21 rfl rfl)
theorem dX7_layStates_72 : decode cX7_layStates 72 = .ok (.iastore, 1) := dk_79 (dk_at dksX7_layStates_3 0 rfl rfl)
theorem dX7_layStates_73 : decode cX7_layStates 73 = .ok (.iinc 2 1, 3) := dk_132 2 1 (dk_at dksX7_layStates_3 1 rfl rfl)
theorem dX7_layStates_76 : decode cX7_layStates 76 = .ok (.goto (-28), 3) := dk_167 255 228 (dk_at dksX7_layStates_3 4 rfl rfl)
theorem dX7_layStates_79 : decode cX7_layStates 79 = .ok (.iinc 1 1, 3) := dk_132 1 1 (dk_at dksX7_layStates_3 7 rfl rfl)
theorem dX7_layStates_82 : decode cX7_layStates 82 = .ok (.goto (-44), 3) := dk_167 255 212 (dk_at dksX7_layStates_3 10 rfl rfl)
theorem dX7_layStates_85 : decode cX7_layStates 85 = .ok (.return_, 1) := dk_177 (dk_at dksX7_layStates_3 13 rfl rfl)
abbrev cX7_brokenBy : ByteArray := prog_22_method_53_code
def yX7_brokenBy : MethodName := ⟨RX7, "brokenBy", "(I)I"⟩
def dkwX7_brokenBy_1 : List UInt8 := [182, 1, 35, 154, 0, 5, 28, 172, 132, 2, 1, 167, 255, 223, 2, 172]
abbrev dktX7_brokenBy_1 : List UInt8 := dkwX7_brokenBy_1 ++ []
def dkwX7_brokenBy_0 : List UInt8 := [3, 61, 28, 42, 182, 0, 80, 162, 0, 31, 42, 180, 1, 26, 28, 184, 1, 32, 154, 0, 14, 42, 28, 27]
abbrev dktX7_brokenBy_0 : List UInt8 := dkwX7_brokenBy_0 ++ dktX7_brokenBy_1
theorem dksX7_brokenBy_0 : cX7_brokenBy.data.toList.drop 0 = dktX7_brokenBy_0 := by decide +kernel
theorem dksX7_brokenBy_1 : cX7_brokenBy.data.toList.drop 24 = dktX7_brokenBy_1 := dk_seg dksX7_brokenBy_0 24 rfl rfl
theorem dX7_brokenBy_0 : decode cX7_brokenBy 0 = .ok (.iconst 0, 1) := dk_3 (dk_at dksX7_brokenBy_0 0 rfl rfl)
theorem dX7_brokenBy_1 : decode cX7_brokenBy 1 = .ok (.istore_n 2, 1) := dk_61 (dk_at dksX7_brokenBy_0 1 rfl rfl)
theorem dX7_brokenBy_2 : decode cX7_brokenBy 2 = .ok (.iload_n 2, 1) := dk_28 (dk_at dksX7_brokenBy_0 2 rfl rfl)
theorem dX7_brokenBy_3 : decode cX7_brokenBy 3 = .ok (.aload_n 0, 1) := dk_42 (dk_at dksX7_brokenBy_0 3 rfl rfl)
theorem dX7_brokenBy_4 : decode cX7_brokenBy 4 = .ok (.invokevirtual 80, 3) := dk_182 0 80 (dk_at dksX7_brokenBy_0 4 rfl rfl)
theorem dX7_brokenBy_7 : decode cX7_brokenBy 7 = .ok (.if_icmp .ge 31, 3) := dk_162 0 31 (dk_at dksX7_brokenBy_0 7 rfl rfl)
theorem dX7_brokenBy_10 : decode cX7_brokenBy 10 = .ok (.aload_n 0, 1) := dk_42 (dk_at dksX7_brokenBy_0 10 rfl rfl)
theorem dX7_brokenBy_11 : decode cX7_brokenBy 11 = .ok (.getfield 282, 3) := dk_180 1 26 (dk_at dksX7_brokenBy_0 11 rfl rfl)
theorem dX7_brokenBy_14 : decode cX7_brokenBy 14 = .ok (.iload_n 2, 1) := dk_28 (dk_at dksX7_brokenBy_0 14 rfl rfl)
theorem dX7_brokenBy_15 : decode cX7_brokenBy 15 = .ok (.invokestatic 288, 3) := dk_184 1 32 (dk_at dksX7_brokenBy_0 15 rfl rfl)
theorem dX7_brokenBy_18 : decode cX7_brokenBy 18 = .ok (.ifCond .ne 14, 3) := dk_154 0 14 (dk_at dksX7_brokenBy_0 18 rfl rfl)
theorem dX7_brokenBy_21 : decode cX7_brokenBy 21 = .ok (.aload_n 0, 1) := dk_42 (dk_at dksX7_brokenBy_0 21 rfl rfl)
theorem dX7_brokenBy_22 : decode cX7_brokenBy 22 = .ok (.iload_n 2, 1) := dk_28 (dk_at dksX7_brokenBy_0 22 rfl rfl)
theorem dX7_brokenBy_23 : decode cX7_brokenBy 23 = .ok (.iload_n 1, 1) := dk_27 (dk_at dksX7_brokenBy_0 23 rfl rfl)
theorem dX7_brokenBy_24 : decode cX7_brokenBy 24 = .ok (.invokevirtual 291, 3) := dk_182 1 35 (dk_at dksX7_brokenBy_1 0 rfl rfl)
theorem dX7_brokenBy_27 : decode cX7_brokenBy 27 = .ok (.ifCond .ne 5, 3) := dk_154 0 5 (dk_at dksX7_brokenBy_1 3 rfl rfl)
theorem dX7_brokenBy_30 : decode cX7_brokenBy 30 = .ok (.iload_n 2, 1) := dk_28 (dk_at dksX7_brokenBy_1 6 rfl rfl)
theorem dX7_brokenBy_31 : decode cX7_brokenBy 31 = .ok (.ireturn, 1) := dk_172 (dk_at dksX7_brokenBy_1 7 rfl rfl)
theorem dX7_brokenBy_32 : decode cX7_brokenBy 32 = .ok (.iinc 2 1, 3) := dk_132 2 1 (dk_at dksX7_brokenBy_1 8 rfl rfl)
theorem dX7_brokenBy_35 : decode cX7_brokenBy 35 = .ok (.goto (-33), 3) := dk_167 255 223 (dk_at dksX7_brokenBy_1 11 rfl rfl)
theorem dX7_brokenBy_38 : decode cX7_brokenBy 38 = .ok (.iconst (-1), 1) := dk_2 (dk_at dksX7_brokenBy_1 14 rfl rfl)
theorem dX7_brokenBy_39 : decode cX7_brokenBy 39 = .ok (.ireturn, 1) := dk_172 (dk_at dksX7_brokenBy_1 15 rfl rfl)
abbrev cX7_bit : ByteArray := prog_22_method_5_code
def yX7_bit : MethodName := ⟨RX7, "bit", "(II)I"⟩
def dkwX7_bit_0 : List UInt8 := [26, 27, 122, 4, 126, 172]
abbrev dktX7_bit_0 : List UInt8 := dkwX7_bit_0 ++ []
theorem dksX7_bit_0 : cX7_bit.data.toList.drop 0 = dktX7_bit_0 := by decide +kernel
theorem dX7_bit_0 : decode cX7_bit 0 = .ok (.iload_n 0, 1) := dk_26 (dk_at dksX7_bit_0 0 rfl rfl)
theorem dX7_bit_1 : decode cX7_bit 1 = .ok (.iload_n 1, 1) := dk_27 (dk_at dksX7_bit_0 1 rfl rfl)
theorem dX7_bit_2 : decode cX7_bit 2 = .ok (.ishr, 1) := dk_122 (dk_at dksX7_bit_0 2 rfl rfl)
theorem dX7_bit_3 : decode cX7_bit 3 = .ok (.iconst 1, 1) := dk_4 (dk_at dksX7_bit_0 3 rfl rfl)
theorem dX7_bit_4 : decode cX7_bit 4 = .ok (.iand, 1) := dk_126 (dk_at dksX7_bit_0 4 rfl rfl)
theorem dX7_bit_5 : decode cX7_bit 5 = .ok (.ireturn, 1) := dk_172 (dk_at dksX7_bit_0 5 rfl rfl)
abbrev cX7_doneBy : ByteArray := prog_22_method_56_code
def yX7_doneBy : MethodName := ⟨RX7, "doneBy", "(II)I"⟩
def dkwX7_doneBy_6 : List UInt8 := [21, 5, 167, 0, 4, 2, 172]
abbrev dktX7_doneBy_6 : List UInt8 := dkwX7_doneBy_6 ++ []
def dkwX7_doneBy_5 : List UInt8 := [182, 1, 14, 182, 1, 43, 54, 5, 21, 5, 2, 159, 0, 18, 42, 180, 0, 37, 21, 5, 51, 153, 0, 8]
abbrev dktX7_doneBy_5 : List UInt8 := dkwX7_doneBy_5 ++ dktX7_doneBy_6
def dkwX7_doneBy_4 : List UInt8 := [182, 1, 14, 116, 182, 1, 43, 54, 5, 21, 5, 2, 159, 0, 19, 42, 21, 5, 21, 4, 42, 27, 6]
abbrev dktX7_doneBy_4 : List UInt8 := dkwX7_doneBy_4 ++ dktX7_doneBy_5
def dkwX7_doneBy_3 : List UInt8 := [167, 0, 53, 42, 28, 29, 21, 4, 182, 1, 39, 54, 5, 167, 0, 40, 42, 28, 29, 42, 27, 6]
abbrev dktX7_doneBy_3 : List UInt8 := dkwX7_doneBy_3 ++ dktX7_doneBy_4
def dkwX7_doneBy_2 : List UInt8 := [42, 28, 29, 21, 4, 182, 1, 43, 54, 5, 167, 0, 67, 42, 28, 29, 21, 4, 116, 182, 1, 43, 54, 5]
abbrev dktX7_doneBy_2 : List UInt8 := dkwX7_doneBy_2 ++ dktX7_doneBy_3
def dkwX7_doneBy_1 : List UInt8 := [170, 0, 0, 0, 0, 0, 0, 68, 0, 0, 0, 0, 0, 0, 0, 2, 0, 0, 0, 28, 0, 0, 0, 41, 0, 0, 0, 55]
abbrev dktX7_doneBy_1 : List UInt8 := dkwX7_doneBy_1 ++ dktX7_doneBy_2
def dkwX7_doneBy_0 : List UInt8 := [42, 27, 4, 182, 1, 14, 62, 42, 27, 5, 182, 1, 14, 54, 4, 28, 54, 5, 42, 27, 3, 182, 1, 14]
abbrev dktX7_doneBy_0 : List UInt8 := dkwX7_doneBy_0 ++ dktX7_doneBy_1
theorem dksX7_doneBy_0 : cX7_doneBy.data.toList.drop 0 = dktX7_doneBy_0 := by decide +kernel
theorem dksX7_doneBy_1 : cX7_doneBy.data.toList.drop 24 = dktX7_doneBy_1 := dk_seg dksX7_doneBy_0 24 rfl rfl
theorem dksX7_doneBy_2 : cX7_doneBy.data.toList.drop 52 = dktX7_doneBy_2 := dk_seg dksX7_doneBy_1 28 rfl rfl
theorem dksX7_doneBy_3 : cX7_doneBy.data.toList.drop 76 = dktX7_doneBy_3 := dk_seg dksX7_doneBy_2 24 rfl rfl
theorem dksX7_doneBy_4 : cX7_doneBy.data.toList.drop 98 = dktX7_doneBy_4 := dk_seg dksX7_doneBy_3 22 rfl rfl
theorem dksX7_doneBy_5 : cX7_doneBy.data.toList.drop 121 = dktX7_doneBy_5 := dk_seg dksX7_doneBy_4 23 rfl rfl
theorem dksX7_doneBy_6 : cX7_doneBy.data.toList.drop 145 = dktX7_doneBy_6 := dk_seg dksX7_doneBy_5 24 rfl rfl
theorem dX7_doneBy_0 : decode cX7_doneBy 0 = .ok (.aload_n 0, 1) := dk_42 (dk_at dksX7_doneBy_0 0 rfl rfl)
theorem dX7_doneBy_1 : decode cX7_doneBy 1 = .ok (.iload_n 1, 1) := dk_27 (dk_at dksX7_doneBy_0 1 rfl rfl)
theorem dX7_doneBy_2 : decode cX7_doneBy 2 = .ok (.iconst 1, 1) := dk_4 (dk_at dksX7_doneBy_0 2 rfl rfl)
theorem dX7_doneBy_3 : decode cX7_doneBy 3 = .ok (.invokevirtual 270, 3) := dk_182 1 14 (dk_at dksX7_doneBy_0 3 rfl rfl)
theorem dX7_doneBy_6 : decode cX7_doneBy 6 = .ok (.istore_n 3, 1) := dk_62 (dk_at dksX7_doneBy_0 6 rfl rfl)
theorem dX7_doneBy_7 : decode cX7_doneBy 7 = .ok (.aload_n 0, 1) := dk_42 (dk_at dksX7_doneBy_0 7 rfl rfl)
theorem dX7_doneBy_8 : decode cX7_doneBy 8 = .ok (.iload_n 1, 1) := dk_27 (dk_at dksX7_doneBy_0 8 rfl rfl)
theorem dX7_doneBy_9 : decode cX7_doneBy 9 = .ok (.iconst 2, 1) := dk_5 (dk_at dksX7_doneBy_0 9 rfl rfl)
theorem dX7_doneBy_10 : decode cX7_doneBy 10 = .ok (.invokevirtual 270, 3) := dk_182 1 14 (dk_at dksX7_doneBy_0 10 rfl rfl)
theorem dX7_doneBy_13 : decode cX7_doneBy 13 = .ok (.istore 4, 2) := dk_54 4 (dk_at dksX7_doneBy_0 13 rfl rfl)
theorem dX7_doneBy_15 : decode cX7_doneBy 15 = .ok (.iload_n 2, 1) := dk_28 (dk_at dksX7_doneBy_0 15 rfl rfl)
theorem dX7_doneBy_16 : decode cX7_doneBy 16 = .ok (.istore 5, 2) := dk_54 5 (dk_at dksX7_doneBy_0 16 rfl rfl)
theorem dX7_doneBy_18 : decode cX7_doneBy 18 = .ok (.aload_n 0, 1) := dk_42 (dk_at dksX7_doneBy_0 18 rfl rfl)
theorem dX7_doneBy_19 : decode cX7_doneBy 19 = .ok (.iload_n 1, 1) := dk_27 (dk_at dksX7_doneBy_0 19 rfl rfl)
theorem dX7_doneBy_20 : decode cX7_doneBy 20 = .ok (.iconst 0, 1) := dk_3 (dk_at dksX7_doneBy_0 20 rfl rfl)
theorem dX7_doneBy_21 : decode cX7_doneBy 21 = .ok (.invokevirtual 270, 3) := dk_182 1 14 (dk_at dksX7_doneBy_0 21 rfl rfl)
theorem dX7_doneBy_24 : decode cX7_doneBy 24 = .ok (.tableswitch 68 0 2 #[28, 41, 55], 28) := by decide +kernel
theorem dX7_doneBy_52 : decode cX7_doneBy 52 = .ok (.aload_n 0, 1) := dk_42 (dk_at dksX7_doneBy_2 0 rfl rfl)
theorem dX7_doneBy_53 : decode cX7_doneBy 53 = .ok (.iload_n 2, 1) := dk_28 (dk_at dksX7_doneBy_2 1 rfl rfl)
theorem dX7_doneBy_54 : decode cX7_doneBy 54 = .ok (.iload_n 3, 1) := dk_29 (dk_at dksX7_doneBy_2 2 rfl rfl)
theorem dX7_doneBy_55 : decode cX7_doneBy 55 = .ok (.iload 4, 2) := dk_21 4 (dk_at dksX7_doneBy_2 3 rfl rfl)
theorem dX7_doneBy_57 : decode cX7_doneBy 57 = .ok (.invokevirtual 299, 3) := dk_182 1 43 (dk_at dksX7_doneBy_2 5 rfl rfl)
theorem dX7_doneBy_60 : decode cX7_doneBy 60 = .ok (.istore 5, 2) := dk_54 5 (dk_at dksX7_doneBy_2 8 rfl rfl)
theorem dX7_doneBy_62 : decode cX7_doneBy 62 = .ok (.goto 67, 3) := dk_167 0 67 (dk_at dksX7_doneBy_2 10 rfl rfl)
theorem dX7_doneBy_65 : decode cX7_doneBy 65 = .ok (.aload_n 0, 1) := dk_42 (dk_at dksX7_doneBy_2 13 rfl rfl)
theorem dX7_doneBy_66 : decode cX7_doneBy 66 = .ok (.iload_n 2, 1) := dk_28 (dk_at dksX7_doneBy_2 14 rfl rfl)
theorem dX7_doneBy_67 : decode cX7_doneBy 67 = .ok (.iload_n 3, 1) := dk_29 (dk_at dksX7_doneBy_2 15 rfl rfl)
theorem dX7_doneBy_68 : decode cX7_doneBy 68 = .ok (.iload 4, 2) := dk_21 4 (dk_at dksX7_doneBy_2 16 rfl rfl)
theorem dX7_doneBy_70 : decode cX7_doneBy 70 = .ok (.ineg, 1) := dk_116 (dk_at dksX7_doneBy_2 18 rfl rfl)
theorem dX7_doneBy_71 : decode cX7_doneBy 71 = .ok (.invokevirtual 299, 3) := dk_182 1 43 (dk_at dksX7_doneBy_2 19 rfl rfl)
theorem dX7_doneBy_74 : decode cX7_doneBy 74 = .ok (.istore 5, 2) := dk_54 5 (dk_at dksX7_doneBy_2 22 rfl rfl)
theorem dX7_doneBy_76 : decode cX7_doneBy 76 = .ok (.goto 53, 3) := dk_167 0 53 (dk_at dksX7_doneBy_3 0 rfl rfl)
theorem dX7_doneBy_79 : decode cX7_doneBy 79 = .ok (.aload_n 0, 1) := dk_42 (dk_at dksX7_doneBy_3 3 rfl rfl)
theorem dX7_doneBy_80 : decode cX7_doneBy 80 = .ok (.iload_n 2, 1) := dk_28 (dk_at dksX7_doneBy_3 4 rfl rfl)
theorem dX7_doneBy_81 : decode cX7_doneBy 81 = .ok (.iload_n 3, 1) := dk_29 (dk_at dksX7_doneBy_3 5 rfl rfl)
theorem dX7_doneBy_82 : decode cX7_doneBy 82 = .ok (.iload 4, 2) := dk_21 4 (dk_at dksX7_doneBy_3 6 rfl rfl)
theorem dX7_doneBy_84 : decode cX7_doneBy 84 = .ok (.invokevirtual 295, 3) := dk_182 1 39 (dk_at dksX7_doneBy_3 8 rfl rfl)
theorem dX7_doneBy_87 : decode cX7_doneBy 87 = .ok (.istore 5, 2) := dk_54 5 (dk_at dksX7_doneBy_3 11 rfl rfl)
theorem dX7_doneBy_89 : decode cX7_doneBy 89 = .ok (.goto 40, 3) := dk_167 0 40 (dk_at dksX7_doneBy_3 13 rfl rfl)
theorem dX7_doneBy_92 : decode cX7_doneBy 92 = .ok (.aload_n 0, 1) := dk_42 (dk_at dksX7_doneBy_3 16 rfl rfl)
theorem dX7_doneBy_93 : decode cX7_doneBy 93 = .ok (.iload_n 2, 1) := dk_28 (dk_at dksX7_doneBy_3 17 rfl rfl)
theorem dX7_doneBy_94 : decode cX7_doneBy 94 = .ok (.iload_n 3, 1) := dk_29 (dk_at dksX7_doneBy_3 18 rfl rfl)
theorem dX7_doneBy_95 : decode cX7_doneBy 95 = .ok (.aload_n 0, 1) := dk_42 (dk_at dksX7_doneBy_3 19 rfl rfl)
theorem dX7_doneBy_96 : decode cX7_doneBy 96 = .ok (.iload_n 1, 1) := dk_27 (dk_at dksX7_doneBy_3 20 rfl rfl)
theorem dX7_doneBy_97 : decode cX7_doneBy 97 = .ok (.iconst 3, 1) := dk_6 (dk_at dksX7_doneBy_3 21 rfl rfl)
theorem dX7_doneBy_98 : decode cX7_doneBy 98 = .ok (.invokevirtual 270, 3) := dk_182 1 14 (dk_at dksX7_doneBy_4 0 rfl rfl)
theorem dX7_doneBy_101 : decode cX7_doneBy 101 = .ok (.ineg, 1) := dk_116 (dk_at dksX7_doneBy_4 3 rfl rfl)
theorem dX7_doneBy_102 : decode cX7_doneBy 102 = .ok (.invokevirtual 299, 3) := dk_182 1 43 (dk_at dksX7_doneBy_4 4 rfl rfl)
theorem dX7_doneBy_105 : decode cX7_doneBy 105 = .ok (.istore 5, 2) := dk_54 5 (dk_at dksX7_doneBy_4 7 rfl rfl)
theorem dX7_doneBy_107 : decode cX7_doneBy 107 = .ok (.iload 5, 2) := dk_21 5 (dk_at dksX7_doneBy_4 9 rfl rfl)
theorem dX7_doneBy_109 : decode cX7_doneBy 109 = .ok (.iconst (-1), 1) := dk_2 (dk_at dksX7_doneBy_4 11 rfl rfl)
theorem dX7_doneBy_110 : decode cX7_doneBy 110 = .ok (.if_icmp .eq 19, 3) := dk_159 0 19 (dk_at dksX7_doneBy_4 12 rfl rfl)
theorem dX7_doneBy_113 : decode cX7_doneBy 113 = .ok (.aload_n 0, 1) := dk_42 (dk_at dksX7_doneBy_4 15 rfl rfl)
theorem dX7_doneBy_114 : decode cX7_doneBy 114 = .ok (.iload 5, 2) := dk_21 5 (dk_at dksX7_doneBy_4 16 rfl rfl)
theorem dX7_doneBy_116 : decode cX7_doneBy 116 = .ok (.iload 4, 2) := dk_21 4 (dk_at dksX7_doneBy_4 18 rfl rfl)
theorem dX7_doneBy_118 : decode cX7_doneBy 118 = .ok (.aload_n 0, 1) := dk_42 (dk_at dksX7_doneBy_4 20 rfl rfl)
theorem dX7_doneBy_119 : decode cX7_doneBy 119 = .ok (.iload_n 1, 1) := dk_27 (dk_at dksX7_doneBy_4 21 rfl rfl)
theorem dX7_doneBy_120 : decode cX7_doneBy 120 = .ok (.iconst 3, 1) := dk_6 (dk_at dksX7_doneBy_4 22 rfl rfl)
theorem dX7_doneBy_121 : decode cX7_doneBy 121 = .ok (.invokevirtual 270, 3) := dk_182 1 14 (dk_at dksX7_doneBy_5 0 rfl rfl)
theorem dX7_doneBy_124 : decode cX7_doneBy 124 = .ok (.invokevirtual 299, 3) := dk_182 1 43 (dk_at dksX7_doneBy_5 3 rfl rfl)
theorem dX7_doneBy_127 : decode cX7_doneBy 127 = .ok (.istore 5, 2) := dk_54 5 (dk_at dksX7_doneBy_5 6 rfl rfl)
theorem dX7_doneBy_129 : decode cX7_doneBy 129 = .ok (.iload 5, 2) := dk_21 5 (dk_at dksX7_doneBy_5 8 rfl rfl)
theorem dX7_doneBy_131 : decode cX7_doneBy 131 = .ok (.iconst (-1), 1) := dk_2 (dk_at dksX7_doneBy_5 10 rfl rfl)
theorem dX7_doneBy_132 : decode cX7_doneBy 132 = .ok (.if_icmp .eq 18, 3) := dk_159 0 18 (dk_at dksX7_doneBy_5 11 rfl rfl)
theorem dX7_doneBy_135 : decode cX7_doneBy 135 = .ok (.aload_n 0, 1) := dk_42 (dk_at dksX7_doneBy_5 14 rfl rfl)
theorem dX7_doneBy_136 : decode cX7_doneBy 136 = .ok (.getfield 37, 3) := dk_180 0 37 (dk_at dksX7_doneBy_5 15 rfl rfl)
theorem dX7_doneBy_139 : decode cX7_doneBy 139 = .ok (.iload 5, 2) := dk_21 5 (dk_at dksX7_doneBy_5 18 rfl rfl)
theorem dX7_doneBy_141 : decode cX7_doneBy 141 = .ok (.baload, 1) := dk_51 (dk_at dksX7_doneBy_5 20 rfl rfl)
theorem dX7_doneBy_142 : decode cX7_doneBy 142 = .ok (.ifCond .eq 8, 3) := dk_153 0 8 (dk_at dksX7_doneBy_5 21 rfl rfl)
theorem dX7_doneBy_145 : decode cX7_doneBy 145 = .ok (.iload 5, 2) := dk_21 5 (dk_at dksX7_doneBy_6 0 rfl rfl)
theorem dX7_doneBy_147 : decode cX7_doneBy 147 = .ok (.goto 4, 3) := dk_167 0 4 (dk_at dksX7_doneBy_6 2 rfl rfl)
theorem dX7_doneBy_150 : decode cX7_doneBy 150 = .ok (.iconst (-1), 1) := dk_2 (dk_at dksX7_doneBy_6 5 rfl rfl)
theorem dX7_doneBy_151 : decode cX7_doneBy 151 = .ok (.ireturn, 1) := dk_172 (dk_at dksX7_doneBy_6 6 rfl rfl)
abbrev cX7_added : ByteArray := prog_22_method_55_code
def yX7_added : MethodName := ⟨RX7, "added", "(III)I"⟩
def dkwX7_added_1 : List UInt8 := [153, 0, 14, 42, 27, 28, 21, 4, 182, 1, 39, 167, 0, 4, 2, 172]
abbrev dktX7_added_1 : List UInt8 := dkwX7_added_1 ++ []
def dkwX7_added_0 : List UInt8 := [42, 27, 28, 182, 1, 29, 29, 96, 54, 4, 21, 4, 133, 9, 42, 180, 0, 9, 3, 46, 133, 184, 0, 76]
abbrev dktX7_added_0 : List UInt8 := dkwX7_added_0 ++ dktX7_added_1
theorem dksX7_added_0 : cX7_added.data.toList.drop 0 = dktX7_added_0 := by decide +kernel
theorem dksX7_added_1 : cX7_added.data.toList.drop 24 = dktX7_added_1 := dk_seg dksX7_added_0 24 rfl rfl
theorem dX7_added_0 : decode cX7_added 0 = .ok (.aload_n 0, 1) := dk_42 (dk_at dksX7_added_0 0 rfl rfl)
theorem dX7_added_1 : decode cX7_added 1 = .ok (.iload_n 1, 1) := dk_27 (dk_at dksX7_added_0 1 rfl rfl)
theorem dX7_added_2 : decode cX7_added 2 = .ok (.iload_n 2, 1) := dk_28 (dk_at dksX7_added_0 2 rfl rfl)
theorem dX7_added_3 : decode cX7_added 3 = .ok (.invokevirtual 285, 3) := dk_182 1 29 (dk_at dksX7_added_0 3 rfl rfl)
theorem dX7_added_6 : decode cX7_added 6 = .ok (.iload_n 3, 1) := dk_29 (dk_at dksX7_added_0 6 rfl rfl)
theorem dX7_added_7 : decode cX7_added 7 = .ok (.iadd, 1) := dk_96 (dk_at dksX7_added_0 7 rfl rfl)
theorem dX7_added_8 : decode cX7_added 8 = .ok (.istore 4, 2) := dk_54 4 (dk_at dksX7_added_0 8 rfl rfl)
theorem dX7_added_10 : decode cX7_added 10 = .ok (.iload 4, 2) := dk_21 4 (dk_at dksX7_added_0 10 rfl rfl)
theorem dX7_added_12 : decode cX7_added 12 = .ok (.i2l, 1) := dk_133 (dk_at dksX7_added_0 12 rfl rfl)
theorem dX7_added_13 : decode cX7_added 13 = .ok (.lconst 0, 1) := dk_9 (dk_at dksX7_added_0 13 rfl rfl)
theorem dX7_added_14 : decode cX7_added 14 = .ok (.aload_n 0, 1) := dk_42 (dk_at dksX7_added_0 14 rfl rfl)
theorem dX7_added_15 : decode cX7_added 15 = .ok (.getfield 9, 3) := dk_180 0 9 (dk_at dksX7_added_0 15 rfl rfl)
theorem dX7_added_18 : decode cX7_added 18 = .ok (.iconst 0, 1) := dk_3 (dk_at dksX7_added_0 18 rfl rfl)
theorem dX7_added_19 : decode cX7_added 19 = .ok (.iaload, 1) := dk_46 (dk_at dksX7_added_0 19 rfl rfl)
theorem dX7_added_20 : decode cX7_added 20 = .ok (.i2l, 1) := dk_133 (dk_at dksX7_added_0 20 rfl rfl)
theorem dX7_added_21 : decode cX7_added 21 = .ok (.invokestatic 76, 3) := dk_184 0 76 (dk_at dksX7_added_0 21 rfl rfl)
theorem dX7_added_24 : decode cX7_added 24 = .ok (.ifCond .eq 14, 3) := dk_153 0 14 (dk_at dksX7_added_1 0 rfl rfl)
theorem dX7_added_27 : decode cX7_added 27 = .ok (.aload_n 0, 1) := dk_42 (dk_at dksX7_added_1 3 rfl rfl)
theorem dX7_added_28 : decode cX7_added 28 = .ok (.iload_n 1, 1) := dk_27 (dk_at dksX7_added_1 4 rfl rfl)
theorem dX7_added_29 : decode cX7_added 29 = .ok (.iload_n 2, 1) := dk_28 (dk_at dksX7_added_1 5 rfl rfl)
theorem dX7_added_30 : decode cX7_added 30 = .ok (.iload 4, 2) := dk_21 4 (dk_at dksX7_added_1 6 rfl rfl)
theorem dX7_added_32 : decode cX7_added 32 = .ok (.invokevirtual 295, 3) := dk_182 1 39 (dk_at dksX7_added_1 8 rfl rfl)
theorem dX7_added_35 : decode cX7_added 35 = .ok (.goto 4, 3) := dk_167 0 4 (dk_at dksX7_added_1 11 rfl rfl)
theorem dX7_added_38 : decode cX7_added 38 = .ok (.iconst (-1), 1) := dk_2 (dk_at dksX7_added_1 14 rfl rfl)
theorem dX7_added_39 : decode cX7_added 39 = .ok (.ireturn, 1) := dk_172 (dk_at dksX7_added_1 15 rfl rfl)
abbrev cX7_withValue : ByteArray := prog_22_method_54_code
def yX7_withValue : MethodName := ⟨RX7, "withValue", "(III)I"⟩
def dkwX7_withValue_1 : List UInt8 := [54, 4, 132, 5, 1, 167, 255, 234, 27, 21, 4, 29, 42, 27, 28, 182, 1, 29, 100, 104, 96, 172]
abbrev dktX7_withValue_1 : List UInt8 := dkwX7_withValue_1 ++ []
def dkwX7_withValue_0 : List UInt8 := [4, 54, 4, 3, 54, 5, 21, 5, 28, 162, 0, 22, 21, 4, 42, 180, 0, 9, 3, 46, 4, 96, 104]
abbrev dktX7_withValue_0 : List UInt8 := dkwX7_withValue_0 ++ dktX7_withValue_1
theorem dksX7_withValue_0 : cX7_withValue.data.toList.drop 0 = dktX7_withValue_0 := by decide +kernel
theorem dksX7_withValue_1 : cX7_withValue.data.toList.drop 23 = dktX7_withValue_1 := dk_seg dksX7_withValue_0 23 rfl rfl
theorem dX7_withValue_0 : decode cX7_withValue 0 = .ok (.iconst 1, 1) := dk_4 (dk_at dksX7_withValue_0 0 rfl rfl)
theorem dX7_withValue_1 : decode cX7_withValue 1 = .ok (.istore 4, 2) := dk_54 4 (dk_at dksX7_withValue_0 1 rfl rfl)
theorem dX7_withValue_3 : decode cX7_withValue 3 = .ok (.iconst 0, 1) := dk_3 (dk_at dksX7_withValue_0 3 rfl rfl)
theorem dX7_withValue_4 : decode cX7_withValue 4 = .ok (.istore 5, 2) := dk_54 5 (dk_at dksX7_withValue_0 4 rfl rfl)
theorem dX7_withValue_6 : decode cX7_withValue 6 = .ok (.iload 5, 2) := dk_21 5 (dk_at dksX7_withValue_0 6 rfl rfl)
theorem dX7_withValue_8 : decode cX7_withValue 8 = .ok (.iload_n 2, 1) := dk_28 (dk_at dksX7_withValue_0 8 rfl rfl)
theorem dX7_withValue_9 : decode cX7_withValue 9 = .ok (.if_icmp .ge 22, 3) := dk_162 0 22 (dk_at dksX7_withValue_0 9 rfl rfl)
theorem dX7_withValue_12 : decode cX7_withValue 12 = .ok (.iload 4, 2) := dk_21 4 (dk_at dksX7_withValue_0 12 rfl rfl)
theorem dX7_withValue_14 : decode cX7_withValue 14 = .ok (.aload_n 0, 1) := dk_42 (dk_at dksX7_withValue_0 14 rfl rfl)
theorem dX7_withValue_15 : decode cX7_withValue 15 = .ok (.getfield 9, 3) := dk_180 0 9 (dk_at dksX7_withValue_0 15 rfl rfl)
theorem dX7_withValue_18 : decode cX7_withValue 18 = .ok (.iconst 0, 1) := dk_3 (dk_at dksX7_withValue_0 18 rfl rfl)
theorem dX7_withValue_19 : decode cX7_withValue 19 = .ok (.iaload, 1) := dk_46 (dk_at dksX7_withValue_0 19 rfl rfl)
theorem dX7_withValue_20 : decode cX7_withValue 20 = .ok (.iconst 1, 1) := dk_4 (dk_at dksX7_withValue_0 20 rfl rfl)
theorem dX7_withValue_21 : decode cX7_withValue 21 = .ok (.iadd, 1) := dk_96 (dk_at dksX7_withValue_0 21 rfl rfl)
theorem dX7_withValue_22 : decode cX7_withValue 22 = .ok (.imul, 1) := dk_104 (dk_at dksX7_withValue_0 22 rfl rfl)
theorem dX7_withValue_23 : decode cX7_withValue 23 = .ok (.istore 4, 2) := dk_54 4 (dk_at dksX7_withValue_1 0 rfl rfl)
theorem dX7_withValue_25 : decode cX7_withValue 25 = .ok (.iinc 5 1, 3) := dk_132 5 1 (dk_at dksX7_withValue_1 2 rfl rfl)
theorem dX7_withValue_28 : decode cX7_withValue 28 = .ok (.goto (-22), 3) := dk_167 255 234 (dk_at dksX7_withValue_1 5 rfl rfl)
theorem dX7_withValue_31 : decode cX7_withValue 31 = .ok (.iload_n 1, 1) := dk_27 (dk_at dksX7_withValue_1 8 rfl rfl)
theorem dX7_withValue_32 : decode cX7_withValue 32 = .ok (.iload 4, 2) := dk_21 4 (dk_at dksX7_withValue_1 9 rfl rfl)
theorem dX7_withValue_34 : decode cX7_withValue 34 = .ok (.iload_n 3, 1) := dk_29 (dk_at dksX7_withValue_1 11 rfl rfl)
theorem dX7_withValue_35 : decode cX7_withValue 35 = .ok (.aload_n 0, 1) := dk_42 (dk_at dksX7_withValue_1 12 rfl rfl)
theorem dX7_withValue_36 : decode cX7_withValue 36 = .ok (.iload_n 1, 1) := dk_27 (dk_at dksX7_withValue_1 13 rfl rfl)
theorem dX7_withValue_37 : decode cX7_withValue 37 = .ok (.iload_n 2, 1) := dk_28 (dk_at dksX7_withValue_1 14 rfl rfl)
theorem dX7_withValue_38 : decode cX7_withValue 38 = .ok (.invokevirtual 285, 3) := dk_182 1 29 (dk_at dksX7_withValue_1 15 rfl rfl)
theorem dX7_withValue_41 : decode cX7_withValue 41 = .ok (.isub, 1) := dk_100 (dk_at dksX7_withValue_1 18 rfl rfl)
theorem dX7_withValue_42 : decode cX7_withValue 42 = .ok (.imul, 1) := dk_104 (dk_at dksX7_withValue_1 19 rfl rfl)
theorem dX7_withValue_43 : decode cX7_withValue 43 = .ok (.iadd, 1) := dk_96 (dk_at dksX7_withValue_1 20 rfl rfl)
theorem dX7_withValue_44 : decode cX7_withValue 44 = .ok (.ireturn, 1) := dk_172 (dk_at dksX7_withValue_1 21 rfl rfl)
abbrev cX7_locked : ByteArray := prog_22_method_66_code
def yX7_locked : MethodName := ⟨RX7, "locked", "()I"⟩
def dkwX7_locked_0 : List UInt8 := [42, 182, 1, 62, 153, 0, 10, 42, 180, 1, 23, 167, 0, 5, 16, 254, 172]
abbrev dktX7_locked_0 : List UInt8 := dkwX7_locked_0 ++ []
theorem dksX7_locked_0 : cX7_locked.data.toList.drop 0 = dktX7_locked_0 := by decide +kernel
theorem dX7_locked_0 : decode cX7_locked 0 = .ok (.aload_n 0, 1) := dk_42 (dk_at dksX7_locked_0 0 rfl rfl)
theorem dX7_locked_1 : decode cX7_locked 1 = .ok (.invokevirtual 318, 3) := dk_182 1 62 (dk_at dksX7_locked_0 1 rfl rfl)
theorem dX7_locked_4 : decode cX7_locked 4 = .ok (.ifCond .eq 10, 3) := dk_153 0 10 (dk_at dksX7_locked_0 4 rfl rfl)
theorem dX7_locked_7 : decode cX7_locked 7 = .ok (.aload_n 0, 1) := dk_42 (dk_at dksX7_locked_0 7 rfl rfl)
theorem dX7_locked_8 : decode cX7_locked 8 = .ok (.getfield 279, 3) := dk_180 1 23 (dk_at dksX7_locked_0 8 rfl rfl)
theorem dX7_locked_11 : decode cX7_locked 11 = .ok (.goto 5, 3) := dk_167 0 5 (dk_at dksX7_locked_0 11 rfl rfl)
theorem dX7_locked_14 : decode cX7_locked 14 = .ok (.bipush (-2), 2) := dk_16 254 (dk_at dksX7_locked_0 14 rfl rfl)
theorem dX7_locked_16 : decode cX7_locked 16 = .ok (.ireturn, 1) := dk_172 (dk_at dksX7_locked_0 16 rfl rfl)
abbrev cX7_valid : ByteArray := prog_22_method_67_code
def yX7_valid : MethodName := ⟨RX7, "valid", "(I)I"⟩
def dkwX7_valid_1 : List UInt8 := [51, 153, 0, 7, 4, 167, 0, 4, 3, 172]
abbrev dktX7_valid_1 : List UInt8 := dkwX7_valid_1 ++ []
def dkwX7_valid_0 : List UInt8 := [42, 182, 1, 62, 153, 0, 12, 42, 27, 133, 182, 1, 58, 154, 0, 6, 16, 254, 172, 42, 180, 0, 37, 27]
abbrev dktX7_valid_0 : List UInt8 := dkwX7_valid_0 ++ dktX7_valid_1
theorem dksX7_valid_0 : cX7_valid.data.toList.drop 0 = dktX7_valid_0 := by decide +kernel
theorem dksX7_valid_1 : cX7_valid.data.toList.drop 24 = dktX7_valid_1 := dk_seg dksX7_valid_0 24 rfl rfl
theorem dX7_valid_0 : decode cX7_valid 0 = .ok (.aload_n 0, 1) := dk_42 (dk_at dksX7_valid_0 0 rfl rfl)
theorem dX7_valid_1 : decode cX7_valid 1 = .ok (.invokevirtual 318, 3) := dk_182 1 62 (dk_at dksX7_valid_0 1 rfl rfl)
theorem dX7_valid_4 : decode cX7_valid 4 = .ok (.ifCond .eq 12, 3) := dk_153 0 12 (dk_at dksX7_valid_0 4 rfl rfl)
theorem dX7_valid_7 : decode cX7_valid 7 = .ok (.aload_n 0, 1) := dk_42 (dk_at dksX7_valid_0 7 rfl rfl)
theorem dX7_valid_8 : decode cX7_valid 8 = .ok (.iload_n 1, 1) := dk_27 (dk_at dksX7_valid_0 8 rfl rfl)
theorem dX7_valid_9 : decode cX7_valid 9 = .ok (.i2l, 1) := dk_133 (dk_at dksX7_valid_0 9 rfl rfl)
theorem dX7_valid_10 : decode cX7_valid 10 = .ok (.invokevirtual 314, 3) := dk_182 1 58 (dk_at dksX7_valid_0 10 rfl rfl)
theorem dX7_valid_13 : decode cX7_valid 13 = .ok (.ifCond .ne 6, 3) := dk_154 0 6 (dk_at dksX7_valid_0 13 rfl rfl)
theorem dX7_valid_16 : decode cX7_valid 16 = .ok (.bipush (-2), 2) := dk_16 254 (dk_at dksX7_valid_0 16 rfl rfl)
theorem dX7_valid_18 : decode cX7_valid 18 = .ok (.ireturn, 1) := dk_172 (dk_at dksX7_valid_0 18 rfl rfl)
theorem dX7_valid_19 : decode cX7_valid 19 = .ok (.aload_n 0, 1) := dk_42 (dk_at dksX7_valid_0 19 rfl rfl)
theorem dX7_valid_20 : decode cX7_valid 20 = .ok (.getfield 37, 3) := dk_180 0 37 (dk_at dksX7_valid_0 20 rfl rfl)
theorem dX7_valid_23 : decode cX7_valid 23 = .ok (.iload_n 1, 1) := dk_27 (dk_at dksX7_valid_0 23 rfl rfl)
theorem dX7_valid_24 : decode cX7_valid 24 = .ok (.baload, 1) := dk_51 (dk_at dksX7_valid_1 0 rfl rfl)
theorem dX7_valid_25 : decode cX7_valid 25 = .ok (.ifCond .eq 7, 3) := dk_153 0 7 (dk_at dksX7_valid_1 1 rfl rfl)
theorem dX7_valid_28 : decode cX7_valid 28 = .ok (.iconst 1, 1) := dk_4 (dk_at dksX7_valid_1 4 rfl rfl)
theorem dX7_valid_29 : decode cX7_valid 29 = .ok (.goto 4, 3) := dk_167 0 4 (dk_at dksX7_valid_1 5 rfl rfl)
theorem dX7_valid_32 : decode cX7_valid 32 = .ok (.iconst 0, 1) := dk_3 (dk_at dksX7_valid_1 8 rfl rfl)
theorem dX7_valid_33 : decode cX7_valid 33 = .ok (.ireturn, 1) := dk_172 (dk_at dksX7_valid_1 9 rfl rfl)
abbrev cX7_valids : ByteArray := prog_22_method_68_code
def yX7_valids : MethodName := ⟨RX7, "valids", "()I"⟩
def dkwX7_valids_0 : List UInt8 := [42, 182, 1, 62, 153, 0, 10, 42, 182, 1, 65, 167, 0, 5, 16, 254, 172]
abbrev dktX7_valids_0 : List UInt8 := dkwX7_valids_0 ++ []
theorem dksX7_valids_0 : cX7_valids.data.toList.drop 0 = dktX7_valids_0 := by decide +kernel
theorem dX7_valids_0 : decode cX7_valids 0 = .ok (.aload_n 0, 1) := dk_42 (dk_at dksX7_valids_0 0 rfl rfl)
theorem dX7_valids_1 : decode cX7_valids 1 = .ok (.invokevirtual 318, 3) := dk_182 1 62 (dk_at dksX7_valids_0 1 rfl rfl)
theorem dX7_valids_4 : decode cX7_valids 4 = .ok (.ifCond .eq 10, 3) := dk_153 0 10 (dk_at dksX7_valids_0 4 rfl rfl)
theorem dX7_valids_7 : decode cX7_valids 7 = .ok (.aload_n 0, 1) := dk_42 (dk_at dksX7_valids_0 7 rfl rfl)
theorem dX7_valids_8 : decode cX7_valids 8 = .ok (.invokevirtual 321, 3) := dk_182 1 65 (dk_at dksX7_valids_0 8 rfl rfl)
theorem dX7_valids_11 : decode cX7_valids 11 = .ok (.goto 5, 3) := dk_167 0 5 (dk_at dksX7_valids_0 11 rfl rfl)
theorem dX7_valids_14 : decode cX7_valids 14 = .ok (.bipush (-2), 2) := dk_16 254 (dk_at dksX7_valids_0 14 rfl rfl)
theorem dX7_valids_16 : decode cX7_valids 16 = .ok (.ireturn, 1) := dk_172 (dk_at dksX7_valids_0 16 rfl rfl)
abbrev cX7_validMany : ByteArray := prog_22_method_60_code
def yX7_validMany : MethodName := ⟨RX7, "validMany", "()I"⟩
def dkwX7_validMany_1 : List UInt8 := [167, 0, 4, 3, 96, 60, 132, 2, 1, 167, 255, 228, 27, 172]
abbrev dktX7_validMany_1 : List UInt8 := dkwX7_validMany_1 ++ []
def dkwX7_validMany_0 : List UInt8 := [3, 60, 3, 61, 28, 42, 182, 0, 96, 162, 0, 26, 27, 42, 180, 0, 37, 28, 51, 153, 0, 7, 4]
abbrev dktX7_validMany_0 : List UInt8 := dkwX7_validMany_0 ++ dktX7_validMany_1
theorem dksX7_validMany_0 : cX7_validMany.data.toList.drop 0 = dktX7_validMany_0 := by decide +kernel
theorem dksX7_validMany_1 : cX7_validMany.data.toList.drop 23 = dktX7_validMany_1 := dk_seg dksX7_validMany_0 23 rfl rfl
theorem dX7_validMany_0 : decode cX7_validMany 0 = .ok (.iconst 0, 1) := dk_3 (dk_at dksX7_validMany_0 0 rfl rfl)
theorem dX7_validMany_1 : decode cX7_validMany 1 = .ok (.istore_n 1, 1) := dk_60 (dk_at dksX7_validMany_0 1 rfl rfl)
theorem dX7_validMany_2 : decode cX7_validMany 2 = .ok (.iconst 0, 1) := dk_3 (dk_at dksX7_validMany_0 2 rfl rfl)
theorem dX7_validMany_3 : decode cX7_validMany 3 = .ok (.istore_n 2, 1) := dk_61 (dk_at dksX7_validMany_0 3 rfl rfl)
theorem dX7_validMany_4 : decode cX7_validMany 4 = .ok (.iload_n 2, 1) := dk_28 (dk_at dksX7_validMany_0 4 rfl rfl)
theorem dX7_validMany_5 : decode cX7_validMany 5 = .ok (.aload_n 0, 1) := dk_42 (dk_at dksX7_validMany_0 5 rfl rfl)
theorem dX7_validMany_6 : decode cX7_validMany 6 = .ok (.invokevirtual 96, 3) := dk_182 0 96 (dk_at dksX7_validMany_0 6 rfl rfl)
theorem dX7_validMany_9 : decode cX7_validMany 9 = .ok (.if_icmp .ge 26, 3) := dk_162 0 26 (dk_at dksX7_validMany_0 9 rfl rfl)
theorem dX7_validMany_12 : decode cX7_validMany 12 = .ok (.iload_n 1, 1) := dk_27 (dk_at dksX7_validMany_0 12 rfl rfl)
theorem dX7_validMany_13 : decode cX7_validMany 13 = .ok (.aload_n 0, 1) := dk_42 (dk_at dksX7_validMany_0 13 rfl rfl)
theorem dX7_validMany_14 : decode cX7_validMany 14 = .ok (.getfield 37, 3) := dk_180 0 37 (dk_at dksX7_validMany_0 14 rfl rfl)
theorem dX7_validMany_17 : decode cX7_validMany 17 = .ok (.iload_n 2, 1) := dk_28 (dk_at dksX7_validMany_0 17 rfl rfl)
theorem dX7_validMany_18 : decode cX7_validMany 18 = .ok (.baload, 1) := dk_51 (dk_at dksX7_validMany_0 18 rfl rfl)
theorem dX7_validMany_19 : decode cX7_validMany 19 = .ok (.ifCond .eq 7, 3) := dk_153 0 7 (dk_at dksX7_validMany_0 19 rfl rfl)
theorem dX7_validMany_22 : decode cX7_validMany 22 = .ok (.iconst 1, 1) := dk_4 (dk_at dksX7_validMany_0 22 rfl rfl)
theorem dX7_validMany_23 : decode cX7_validMany 23 = .ok (.goto 4, 3) := dk_167 0 4 (dk_at dksX7_validMany_1 0 rfl rfl)
theorem dX7_validMany_26 : decode cX7_validMany 26 = .ok (.iconst 0, 1) := dk_3 (dk_at dksX7_validMany_1 3 rfl rfl)
theorem dX7_validMany_27 : decode cX7_validMany 27 = .ok (.iadd, 1) := dk_96 (dk_at dksX7_validMany_1 4 rfl rfl)
theorem dX7_validMany_28 : decode cX7_validMany 28 = .ok (.istore_n 1, 1) := dk_60 (dk_at dksX7_validMany_1 5 rfl rfl)
theorem dX7_validMany_29 : decode cX7_validMany 29 = .ok (.iinc 2 1, 3) := dk_132 2 1 (dk_at dksX7_validMany_1 6 rfl rfl)
theorem dX7_validMany_32 : decode cX7_validMany 32 = .ok (.goto (-28), 3) := dk_167 255 228 (dk_at dksX7_validMany_1 9 rfl rfl)
theorem dX7_validMany_35 : decode cX7_validMany 35 = .ok (.iload_n 1, 1) := dk_27 (dk_at dksX7_validMany_1 12 rfl rfl)
theorem dX7_validMany_36 : decode cX7_validMany 36 = .ok (.ireturn, 1) := dk_172 (dk_at dksX7_validMany_1 13 rfl rfl)
abbrev cX7_breaks : ByteArray := prog_22_method_69_code
def yX7_breaks : MethodName := ⟨RX7, "breaks", "(I)I"⟩
def dkwX7_breaks_1 : List UInt8 := [16, 254, 172]
abbrev dktX7_breaks_1 : List UInt8 := dkwX7_breaks_1 ++ []
def dkwX7_breaks_0 : List UInt8 := [42, 182, 1, 62, 153, 0, 20, 42, 27, 133, 182, 1, 58, 153, 0, 11, 42, 27, 182, 1, 46, 167, 0, 5]
abbrev dktX7_breaks_0 : List UInt8 := dkwX7_breaks_0 ++ dktX7_breaks_1
theorem dksX7_breaks_0 : cX7_breaks.data.toList.drop 0 = dktX7_breaks_0 := by decide +kernel
theorem dksX7_breaks_1 : cX7_breaks.data.toList.drop 24 = dktX7_breaks_1 := dk_seg dksX7_breaks_0 24 rfl rfl
theorem dX7_breaks_0 : decode cX7_breaks 0 = .ok (.aload_n 0, 1) := dk_42 (dk_at dksX7_breaks_0 0 rfl rfl)
theorem dX7_breaks_1 : decode cX7_breaks 1 = .ok (.invokevirtual 318, 3) := dk_182 1 62 (dk_at dksX7_breaks_0 1 rfl rfl)
theorem dX7_breaks_4 : decode cX7_breaks 4 = .ok (.ifCond .eq 20, 3) := dk_153 0 20 (dk_at dksX7_breaks_0 4 rfl rfl)
theorem dX7_breaks_7 : decode cX7_breaks 7 = .ok (.aload_n 0, 1) := dk_42 (dk_at dksX7_breaks_0 7 rfl rfl)
theorem dX7_breaks_8 : decode cX7_breaks 8 = .ok (.iload_n 1, 1) := dk_27 (dk_at dksX7_breaks_0 8 rfl rfl)
theorem dX7_breaks_9 : decode cX7_breaks 9 = .ok (.i2l, 1) := dk_133 (dk_at dksX7_breaks_0 9 rfl rfl)
theorem dX7_breaks_10 : decode cX7_breaks 10 = .ok (.invokevirtual 314, 3) := dk_182 1 58 (dk_at dksX7_breaks_0 10 rfl rfl)
theorem dX7_breaks_13 : decode cX7_breaks 13 = .ok (.ifCond .eq 11, 3) := dk_153 0 11 (dk_at dksX7_breaks_0 13 rfl rfl)
theorem dX7_breaks_16 : decode cX7_breaks 16 = .ok (.aload_n 0, 1) := dk_42 (dk_at dksX7_breaks_0 16 rfl rfl)
theorem dX7_breaks_17 : decode cX7_breaks 17 = .ok (.iload_n 1, 1) := dk_27 (dk_at dksX7_breaks_0 17 rfl rfl)
theorem dX7_breaks_18 : decode cX7_breaks 18 = .ok (.invokevirtual 302, 3) := dk_182 1 46 (dk_at dksX7_breaks_0 18 rfl rfl)
theorem dX7_breaks_21 : decode cX7_breaks 21 = .ok (.goto 5, 3) := dk_167 0 5 (dk_at dksX7_breaks_0 21 rfl rfl)
theorem dX7_breaks_24 : decode cX7_breaks 24 = .ok (.bipush (-2), 2) := dk_16 254 (dk_at dksX7_breaks_1 0 rfl rfl)
theorem dX7_breaks_26 : decode cX7_breaks 26 = .ok (.ireturn, 1) := dk_172 (dk_at dksX7_breaks_1 2 rfl rfl)
abbrev cX7_nearest : ByteArray := prog_22_method_70_code
def yX7_nearest : MethodName := ⟨RX7, "nearest", "(I)I"⟩
def dkwX7_nearest_5 : List UInt8 := [28, 172]
abbrev dktX7_nearest_5 : List UInt8 := dkwX7_nearest_5 ++ []
def dkwX7_nearest_4 : List UInt8 := [153, 0, 18, 21, 5, 29, 161, 0, 6, 167, 0, 9, 21, 5, 62, 21, 4, 61, 132, 4, 1, 167, 255, 170]
abbrev dktX7_nearest_4 : List UInt8 := dkwX7_nearest_4 ++ dktX7_nearest_5
def dkwX7_nearest_3 : List UInt8 := [159, 0, 7, 4, 167, 0, 4, 3, 96, 54, 5, 132, 6, 1, 167, 255, 216, 42, 180, 0, 37, 21, 4, 51]
abbrev dktX7_nearest_3 : List UInt8 := dkwX7_nearest_3 ++ dktX7_nearest_4
def dkwX7_nearest_2 : List UInt8 := [182, 0, 87, 162, 0, 37, 21, 5, 42, 27, 21, 6, 182, 1, 29, 42, 21, 4, 21, 6, 182, 1, 29]
abbrev dktX7_nearest_2 : List UInt8 := dkwX7_nearest_2 ++ dktX7_nearest_3
def dkwX7_nearest_1 : List UInt8 := [62, 3, 54, 4, 21, 4, 42, 182, 0, 96, 162, 0, 83, 3, 54, 5, 3, 54, 6, 21, 6, 42]
abbrev dktX7_nearest_1 : List UInt8 := dkwX7_nearest_1 ++ dktX7_nearest_2
def dkwX7_nearest_0 : List UInt8 := [42, 182, 1, 62, 153, 0, 12, 42, 27, 133, 182, 1, 58, 154, 0, 6, 16, 254, 172, 2, 61, 19, 1, 68]
abbrev dktX7_nearest_0 : List UInt8 := dkwX7_nearest_0 ++ dktX7_nearest_1
theorem dksX7_nearest_0 : cX7_nearest.data.toList.drop 0 = dktX7_nearest_0 := by decide +kernel
theorem dksX7_nearest_1 : cX7_nearest.data.toList.drop 24 = dktX7_nearest_1 := dk_seg dksX7_nearest_0 24 rfl rfl
theorem dksX7_nearest_2 : cX7_nearest.data.toList.drop 46 = dktX7_nearest_2 := dk_seg dksX7_nearest_1 22 rfl rfl
theorem dksX7_nearest_3 : cX7_nearest.data.toList.drop 69 = dktX7_nearest_3 := dk_seg dksX7_nearest_2 23 rfl rfl
theorem dksX7_nearest_4 : cX7_nearest.data.toList.drop 93 = dktX7_nearest_4 := dk_seg dksX7_nearest_3 24 rfl rfl
theorem dksX7_nearest_5 : cX7_nearest.data.toList.drop 117 = dktX7_nearest_5 := dk_seg dksX7_nearest_4 24 rfl rfl
theorem dX7_nearest_0 : decode cX7_nearest 0 = .ok (.aload_n 0, 1) := dk_42 (dk_at dksX7_nearest_0 0 rfl rfl)
theorem dX7_nearest_1 : decode cX7_nearest 1 = .ok (.invokevirtual 318, 3) := dk_182 1 62 (dk_at dksX7_nearest_0 1 rfl rfl)
theorem dX7_nearest_4 : decode cX7_nearest 4 = .ok (.ifCond .eq 12, 3) := dk_153 0 12 (dk_at dksX7_nearest_0 4 rfl rfl)
theorem dX7_nearest_7 : decode cX7_nearest 7 = .ok (.aload_n 0, 1) := dk_42 (dk_at dksX7_nearest_0 7 rfl rfl)
theorem dX7_nearest_8 : decode cX7_nearest 8 = .ok (.iload_n 1, 1) := dk_27 (dk_at dksX7_nearest_0 8 rfl rfl)
theorem dX7_nearest_9 : decode cX7_nearest 9 = .ok (.i2l, 1) := dk_133 (dk_at dksX7_nearest_0 9 rfl rfl)
theorem dX7_nearest_10 : decode cX7_nearest 10 = .ok (.invokevirtual 314, 3) := dk_182 1 58 (dk_at dksX7_nearest_0 10 rfl rfl)
theorem dX7_nearest_13 : decode cX7_nearest 13 = .ok (.ifCond .ne 6, 3) := dk_154 0 6 (dk_at dksX7_nearest_0 13 rfl rfl)
theorem dX7_nearest_16 : decode cX7_nearest 16 = .ok (.bipush (-2), 2) := dk_16 254 (dk_at dksX7_nearest_0 16 rfl rfl)
theorem dX7_nearest_18 : decode cX7_nearest 18 = .ok (.ireturn, 1) := dk_172 (dk_at dksX7_nearest_0 18 rfl rfl)
theorem dX7_nearest_19 : decode cX7_nearest 19 = .ok (.iconst (-1), 1) := dk_2 (dk_at dksX7_nearest_0 19 rfl rfl)
theorem dX7_nearest_20 : decode cX7_nearest 20 = .ok (.istore_n 2, 1) := dk_61 (dk_at dksX7_nearest_0 20 rfl rfl)
theorem dX7_nearest_21 : decode cX7_nearest 21 = .ok (.ldc_w 324, 3) := dk_19 1 68 (dk_at dksX7_nearest_0 21 rfl rfl)
theorem dX7_nearest_24 : decode cX7_nearest 24 = .ok (.istore_n 3, 1) := dk_62 (dk_at dksX7_nearest_1 0 rfl rfl)
theorem dX7_nearest_25 : decode cX7_nearest 25 = .ok (.iconst 0, 1) := dk_3 (dk_at dksX7_nearest_1 1 rfl rfl)
theorem dX7_nearest_26 : decode cX7_nearest 26 = .ok (.istore 4, 2) := dk_54 4 (dk_at dksX7_nearest_1 2 rfl rfl)
theorem dX7_nearest_28 : decode cX7_nearest 28 = .ok (.iload 4, 2) := dk_21 4 (dk_at dksX7_nearest_1 4 rfl rfl)
theorem dX7_nearest_30 : decode cX7_nearest 30 = .ok (.aload_n 0, 1) := dk_42 (dk_at dksX7_nearest_1 6 rfl rfl)
theorem dX7_nearest_31 : decode cX7_nearest 31 = .ok (.invokevirtual 96, 3) := dk_182 0 96 (dk_at dksX7_nearest_1 7 rfl rfl)
theorem dX7_nearest_34 : decode cX7_nearest 34 = .ok (.if_icmp .ge 83, 3) := dk_162 0 83 (dk_at dksX7_nearest_1 10 rfl rfl)
theorem dX7_nearest_37 : decode cX7_nearest 37 = .ok (.iconst 0, 1) := dk_3 (dk_at dksX7_nearest_1 13 rfl rfl)
theorem dX7_nearest_38 : decode cX7_nearest 38 = .ok (.istore 5, 2) := dk_54 5 (dk_at dksX7_nearest_1 14 rfl rfl)
theorem dX7_nearest_40 : decode cX7_nearest 40 = .ok (.iconst 0, 1) := dk_3 (dk_at dksX7_nearest_1 16 rfl rfl)
theorem dX7_nearest_41 : decode cX7_nearest 41 = .ok (.istore 6, 2) := dk_54 6 (dk_at dksX7_nearest_1 17 rfl rfl)
theorem dX7_nearest_43 : decode cX7_nearest 43 = .ok (.iload 6, 2) := dk_21 6 (dk_at dksX7_nearest_1 19 rfl rfl)
theorem dX7_nearest_45 : decode cX7_nearest 45 = .ok (.aload_n 0, 1) := dk_42 (dk_at dksX7_nearest_1 21 rfl rfl)
theorem dX7_nearest_46 : decode cX7_nearest 46 = .ok (.invokevirtual 87, 3) := dk_182 0 87 (dk_at dksX7_nearest_2 0 rfl rfl)
theorem dX7_nearest_49 : decode cX7_nearest 49 = .ok (.if_icmp .ge 37, 3) := dk_162 0 37 (dk_at dksX7_nearest_2 3 rfl rfl)
theorem dX7_nearest_52 : decode cX7_nearest 52 = .ok (.iload 5, 2) := dk_21 5 (dk_at dksX7_nearest_2 6 rfl rfl)
theorem dX7_nearest_54 : decode cX7_nearest 54 = .ok (.aload_n 0, 1) := dk_42 (dk_at dksX7_nearest_2 8 rfl rfl)
theorem dX7_nearest_55 : decode cX7_nearest 55 = .ok (.iload_n 1, 1) := dk_27 (dk_at dksX7_nearest_2 9 rfl rfl)
theorem dX7_nearest_56 : decode cX7_nearest 56 = .ok (.iload 6, 2) := dk_21 6 (dk_at dksX7_nearest_2 10 rfl rfl)
theorem dX7_nearest_58 : decode cX7_nearest 58 = .ok (.invokevirtual 285, 3) := dk_182 1 29 (dk_at dksX7_nearest_2 12 rfl rfl)
theorem dX7_nearest_61 : decode cX7_nearest 61 = .ok (.aload_n 0, 1) := dk_42 (dk_at dksX7_nearest_2 15 rfl rfl)
theorem dX7_nearest_62 : decode cX7_nearest 62 = .ok (.iload 4, 2) := dk_21 4 (dk_at dksX7_nearest_2 16 rfl rfl)
theorem dX7_nearest_64 : decode cX7_nearest 64 = .ok (.iload 6, 2) := dk_21 6 (dk_at dksX7_nearest_2 18 rfl rfl)
theorem dX7_nearest_66 : decode cX7_nearest 66 = .ok (.invokevirtual 285, 3) := dk_182 1 29 (dk_at dksX7_nearest_2 20 rfl rfl)
theorem dX7_nearest_69 : decode cX7_nearest 69 = .ok (.if_icmp .eq 7, 3) := dk_159 0 7 (dk_at dksX7_nearest_3 0 rfl rfl)
theorem dX7_nearest_72 : decode cX7_nearest 72 = .ok (.iconst 1, 1) := dk_4 (dk_at dksX7_nearest_3 3 rfl rfl)
theorem dX7_nearest_73 : decode cX7_nearest 73 = .ok (.goto 4, 3) := dk_167 0 4 (dk_at dksX7_nearest_3 4 rfl rfl)
theorem dX7_nearest_76 : decode cX7_nearest 76 = .ok (.iconst 0, 1) := dk_3 (dk_at dksX7_nearest_3 7 rfl rfl)
theorem dX7_nearest_77 : decode cX7_nearest 77 = .ok (.iadd, 1) := dk_96 (dk_at dksX7_nearest_3 8 rfl rfl)
theorem dX7_nearest_78 : decode cX7_nearest 78 = .ok (.istore 5, 2) := dk_54 5 (dk_at dksX7_nearest_3 9 rfl rfl)
theorem dX7_nearest_80 : decode cX7_nearest 80 = .ok (.iinc 6 1, 3) := dk_132 6 1 (dk_at dksX7_nearest_3 11 rfl rfl)
theorem dX7_nearest_83 : decode cX7_nearest 83 = .ok (.goto (-40), 3) := dk_167 255 216 (dk_at dksX7_nearest_3 14 rfl rfl)
theorem dX7_nearest_86 : decode cX7_nearest 86 = .ok (.aload_n 0, 1) := dk_42 (dk_at dksX7_nearest_3 17 rfl rfl)
theorem dX7_nearest_87 : decode cX7_nearest 87 = .ok (.getfield 37, 3) := dk_180 0 37 (dk_at dksX7_nearest_3 18 rfl rfl)
theorem dX7_nearest_90 : decode cX7_nearest 90 = .ok (.iload 4, 2) := dk_21 4 (dk_at dksX7_nearest_3 21 rfl rfl)
theorem dX7_nearest_92 : decode cX7_nearest 92 = .ok (.baload, 1) := dk_51 (dk_at dksX7_nearest_3 23 rfl rfl)
theorem dX7_nearest_93 : decode cX7_nearest 93 = .ok (.ifCond .eq 18, 3) := dk_153 0 18 (dk_at dksX7_nearest_4 0 rfl rfl)
theorem dX7_nearest_96 : decode cX7_nearest 96 = .ok (.iload 5, 2) := dk_21 5 (dk_at dksX7_nearest_4 3 rfl rfl)
theorem dX7_nearest_98 : decode cX7_nearest 98 = .ok (.iload_n 3, 1) := dk_29 (dk_at dksX7_nearest_4 5 rfl rfl)
theorem dX7_nearest_99 : decode cX7_nearest 99 = .ok (.if_icmp .lt 6, 3) := dk_161 0 6 (dk_at dksX7_nearest_4 6 rfl rfl)
theorem dX7_nearest_102 : decode cX7_nearest 102 = .ok (.goto 9, 3) := dk_167 0 9 (dk_at dksX7_nearest_4 9 rfl rfl)
theorem dX7_nearest_105 : decode cX7_nearest 105 = .ok (.iload 5, 2) := dk_21 5 (dk_at dksX7_nearest_4 12 rfl rfl)
theorem dX7_nearest_107 : decode cX7_nearest 107 = .ok (.istore_n 3, 1) := dk_62 (dk_at dksX7_nearest_4 14 rfl rfl)
theorem dX7_nearest_108 : decode cX7_nearest 108 = .ok (.iload 4, 2) := dk_21 4 (dk_at dksX7_nearest_4 15 rfl rfl)
theorem dX7_nearest_110 : decode cX7_nearest 110 = .ok (.istore_n 2, 1) := dk_61 (dk_at dksX7_nearest_4 17 rfl rfl)
theorem dX7_nearest_111 : decode cX7_nearest 111 = .ok (.iinc 4 1, 3) := dk_132 4 1 (dk_at dksX7_nearest_4 18 rfl rfl)
theorem dX7_nearest_114 : decode cX7_nearest 114 = .ok (.goto (-86), 3) := dk_167 255 170 (dk_at dksX7_nearest_4 21 rfl rfl)
theorem dX7_nearest_117 : decode cX7_nearest 117 = .ok (.iload_n 2, 1) := dk_28 (dk_at dksX7_nearest_5 0 rfl rfl)
theorem dX7_nearest_118 : decode cX7_nearest 118 = .ok (.ireturn, 1) := dk_172 (dk_at dksX7_nearest_5 1 rfl rfl)
abbrev cX7_hard : ByteArray := prog_22_method_71_code
def yX7_hard : MethodName := ⟨RX7, "hard", "()I"⟩
def dkwX7_hard_3 : List UInt8 := [167, 0, 8, 21, 4, 61, 29, 60, 132, 3, 1, 167, 255, 190, 27, 172]
abbrev dktX7_hard_3 : List UInt8 := dkwX7_hard_3 ++ []
def dkwX7_hard_2 : List UInt8 := [153, 0, 7, 3, 167, 0, 4, 4, 96, 54, 4, 132, 5, 1, 167, 255, 224, 21, 4, 28, 163, 0, 6]
abbrev dktX7_hard_2 : List UInt8 := dkwX7_hard_2 ++ dktX7_hard_3
def dkwX7_hard_1 : List UInt8 := [3, 54, 4, 3, 54, 5, 21, 5, 42, 182, 0, 96, 162, 0, 29, 21, 4, 42, 29, 21, 5, 182, 1, 35]
abbrev dktX7_hard_1 : List UInt8 := dkwX7_hard_1 ++ dktX7_hard_2
def dkwX7_hard_0 : List UInt8 := [42, 182, 1, 62, 154, 0, 6, 16, 254, 172, 2, 60, 2, 61, 3, 62, 29, 42, 182, 0, 80, 162, 0, 64]
abbrev dktX7_hard_0 : List UInt8 := dkwX7_hard_0 ++ dktX7_hard_1
theorem dksX7_hard_0 : cX7_hard.data.toList.drop 0 = dktX7_hard_0 := by decide +kernel
theorem dksX7_hard_1 : cX7_hard.data.toList.drop 24 = dktX7_hard_1 := dk_seg dksX7_hard_0 24 rfl rfl
theorem dksX7_hard_2 : cX7_hard.data.toList.drop 48 = dktX7_hard_2 := dk_seg dksX7_hard_1 24 rfl rfl
theorem dksX7_hard_3 : cX7_hard.data.toList.drop 71 = dktX7_hard_3 := dk_seg dksX7_hard_2 23 rfl rfl
theorem dX7_hard_0 : decode cX7_hard 0 = .ok (.aload_n 0, 1) := dk_42 (dk_at dksX7_hard_0 0 rfl rfl)
theorem dX7_hard_1 : decode cX7_hard 1 = .ok (.invokevirtual 318, 3) := dk_182 1 62 (dk_at dksX7_hard_0 1 rfl rfl)
theorem dX7_hard_4 : decode cX7_hard 4 = .ok (.ifCond .ne 6, 3) := dk_154 0 6 (dk_at dksX7_hard_0 4 rfl rfl)
theorem dX7_hard_7 : decode cX7_hard 7 = .ok (.bipush (-2), 2) := dk_16 254 (dk_at dksX7_hard_0 7 rfl rfl)
theorem dX7_hard_9 : decode cX7_hard 9 = .ok (.ireturn, 1) := dk_172 (dk_at dksX7_hard_0 9 rfl rfl)
theorem dX7_hard_10 : decode cX7_hard 10 = .ok (.iconst (-1), 1) := dk_2 (dk_at dksX7_hard_0 10 rfl rfl)
theorem dX7_hard_11 : decode cX7_hard 11 = .ok (.istore_n 1, 1) := dk_60 (dk_at dksX7_hard_0 11 rfl rfl)
theorem dX7_hard_12 : decode cX7_hard 12 = .ok (.iconst (-1), 1) := dk_2 (dk_at dksX7_hard_0 12 rfl rfl)
theorem dX7_hard_13 : decode cX7_hard 13 = .ok (.istore_n 2, 1) := dk_61 (dk_at dksX7_hard_0 13 rfl rfl)
theorem dX7_hard_14 : decode cX7_hard 14 = .ok (.iconst 0, 1) := dk_3 (dk_at dksX7_hard_0 14 rfl rfl)
theorem dX7_hard_15 : decode cX7_hard 15 = .ok (.istore_n 3, 1) := dk_62 (dk_at dksX7_hard_0 15 rfl rfl)
theorem dX7_hard_16 : decode cX7_hard 16 = .ok (.iload_n 3, 1) := dk_29 (dk_at dksX7_hard_0 16 rfl rfl)
theorem dX7_hard_17 : decode cX7_hard 17 = .ok (.aload_n 0, 1) := dk_42 (dk_at dksX7_hard_0 17 rfl rfl)
theorem dX7_hard_18 : decode cX7_hard 18 = .ok (.invokevirtual 80, 3) := dk_182 0 80 (dk_at dksX7_hard_0 18 rfl rfl)
theorem dX7_hard_21 : decode cX7_hard 21 = .ok (.if_icmp .ge 64, 3) := dk_162 0 64 (dk_at dksX7_hard_0 21 rfl rfl)
theorem dX7_hard_24 : decode cX7_hard 24 = .ok (.iconst 0, 1) := dk_3 (dk_at dksX7_hard_1 0 rfl rfl)
theorem dX7_hard_25 : decode cX7_hard 25 = .ok (.istore 4, 2) := dk_54 4 (dk_at dksX7_hard_1 1 rfl rfl)
theorem dX7_hard_27 : decode cX7_hard 27 = .ok (.iconst 0, 1) := dk_3 (dk_at dksX7_hard_1 3 rfl rfl)
theorem dX7_hard_28 : decode cX7_hard 28 = .ok (.istore 5, 2) := dk_54 5 (dk_at dksX7_hard_1 4 rfl rfl)
theorem dX7_hard_30 : decode cX7_hard 30 = .ok (.iload 5, 2) := dk_21 5 (dk_at dksX7_hard_1 6 rfl rfl)
theorem dX7_hard_32 : decode cX7_hard 32 = .ok (.aload_n 0, 1) := dk_42 (dk_at dksX7_hard_1 8 rfl rfl)
theorem dX7_hard_33 : decode cX7_hard 33 = .ok (.invokevirtual 96, 3) := dk_182 0 96 (dk_at dksX7_hard_1 9 rfl rfl)
theorem dX7_hard_36 : decode cX7_hard 36 = .ok (.if_icmp .ge 29, 3) := dk_162 0 29 (dk_at dksX7_hard_1 12 rfl rfl)
theorem dX7_hard_39 : decode cX7_hard 39 = .ok (.iload 4, 2) := dk_21 4 (dk_at dksX7_hard_1 15 rfl rfl)
theorem dX7_hard_41 : decode cX7_hard 41 = .ok (.aload_n 0, 1) := dk_42 (dk_at dksX7_hard_1 17 rfl rfl)
theorem dX7_hard_42 : decode cX7_hard 42 = .ok (.iload_n 3, 1) := dk_29 (dk_at dksX7_hard_1 18 rfl rfl)
theorem dX7_hard_43 : decode cX7_hard 43 = .ok (.iload 5, 2) := dk_21 5 (dk_at dksX7_hard_1 19 rfl rfl)
theorem dX7_hard_45 : decode cX7_hard 45 = .ok (.invokevirtual 291, 3) := dk_182 1 35 (dk_at dksX7_hard_1 21 rfl rfl)
theorem dX7_hard_48 : decode cX7_hard 48 = .ok (.ifCond .eq 7, 3) := dk_153 0 7 (dk_at dksX7_hard_2 0 rfl rfl)
theorem dX7_hard_51 : decode cX7_hard 51 = .ok (.iconst 0, 1) := dk_3 (dk_at dksX7_hard_2 3 rfl rfl)
theorem dX7_hard_52 : decode cX7_hard 52 = .ok (.goto 4, 3) := dk_167 0 4 (dk_at dksX7_hard_2 4 rfl rfl)
theorem dX7_hard_55 : decode cX7_hard 55 = .ok (.iconst 1, 1) := dk_4 (dk_at dksX7_hard_2 7 rfl rfl)
theorem dX7_hard_56 : decode cX7_hard 56 = .ok (.iadd, 1) := dk_96 (dk_at dksX7_hard_2 8 rfl rfl)
theorem dX7_hard_57 : decode cX7_hard 57 = .ok (.istore 4, 2) := dk_54 4 (dk_at dksX7_hard_2 9 rfl rfl)
theorem dX7_hard_59 : decode cX7_hard 59 = .ok (.iinc 5 1, 3) := dk_132 5 1 (dk_at dksX7_hard_2 11 rfl rfl)
theorem dX7_hard_62 : decode cX7_hard 62 = .ok (.goto (-32), 3) := dk_167 255 224 (dk_at dksX7_hard_2 14 rfl rfl)
theorem dX7_hard_65 : decode cX7_hard 65 = .ok (.iload 4, 2) := dk_21 4 (dk_at dksX7_hard_2 17 rfl rfl)
theorem dX7_hard_67 : decode cX7_hard 67 = .ok (.iload_n 2, 1) := dk_28 (dk_at dksX7_hard_2 19 rfl rfl)
theorem dX7_hard_68 : decode cX7_hard 68 = .ok (.if_icmp .gt 6, 3) := dk_163 0 6 (dk_at dksX7_hard_2 20 rfl rfl)
theorem dX7_hard_71 : decode cX7_hard 71 = .ok (.goto 8, 3) := dk_167 0 8 (dk_at dksX7_hard_3 0 rfl rfl)
theorem dX7_hard_74 : decode cX7_hard 74 = .ok (.iload 4, 2) := dk_21 4 (dk_at dksX7_hard_3 3 rfl rfl)
theorem dX7_hard_76 : decode cX7_hard 76 = .ok (.istore_n 2, 1) := dk_61 (dk_at dksX7_hard_3 5 rfl rfl)
theorem dX7_hard_77 : decode cX7_hard 77 = .ok (.iload_n 3, 1) := dk_29 (dk_at dksX7_hard_3 6 rfl rfl)
theorem dX7_hard_78 : decode cX7_hard 78 = .ok (.istore_n 1, 1) := dk_60 (dk_at dksX7_hard_3 7 rfl rfl)
theorem dX7_hard_79 : decode cX7_hard 79 = .ok (.iinc 3 1, 3) := dk_132 3 1 (dk_at dksX7_hard_3 8 rfl rfl)
theorem dX7_hard_82 : decode cX7_hard 82 = .ok (.goto (-66), 3) := dk_167 255 190 (dk_at dksX7_hard_3 11 rfl rfl)
theorem dX7_hard_85 : decode cX7_hard 85 = .ok (.iload_n 1, 1) := dk_27 (dk_at dksX7_hard_3 14 rfl rfl)
theorem dX7_hard_86 : decode cX7_hard 86 = .ok (.ireturn, 1) := dk_172 (dk_at dksX7_hard_3 15 rfl rfl)
abbrev cX7_spare : ByteArray := prog_22_method_72_code
def yX7_spare : MethodName := ⟨RX7, "spare", "(I)I"⟩
def dkwX7_spare_2 : List UInt8 := [167, 0, 4, 3, 172]
abbrev dktX7_spare_2 : List UInt8 := dkwX7_spare_2 ++ []
def dkwX7_spare_1 : List UInt8 := [89, 180, 1, 26, 4, 27, 120, 128, 181, 1, 26, 42, 182, 1, 55, 42, 182, 1, 65, 28, 160, 0, 7, 4]
abbrev dktX7_spare_1 : List UInt8 := dkwX7_spare_1 ++ dktX7_spare_2
def dkwX7_spare_0 : List UInt8 := [42, 182, 1, 62, 153, 0, 11, 42, 27, 182, 1, 0, 154, 0, 6, 16, 254, 172, 42, 182, 1, 65, 61, 42]
abbrev dktX7_spare_0 : List UInt8 := dkwX7_spare_0 ++ dktX7_spare_1
theorem dksX7_spare_0 : cX7_spare.data.toList.drop 0 = dktX7_spare_0 := by decide +kernel
theorem dksX7_spare_1 : cX7_spare.data.toList.drop 24 = dktX7_spare_1 := dk_seg dksX7_spare_0 24 rfl rfl
theorem dksX7_spare_2 : cX7_spare.data.toList.drop 48 = dktX7_spare_2 := dk_seg dksX7_spare_1 24 rfl rfl
theorem dX7_spare_0 : decode cX7_spare 0 = .ok (.aload_n 0, 1) := dk_42 (dk_at dksX7_spare_0 0 rfl rfl)
theorem dX7_spare_1 : decode cX7_spare 1 = .ok (.invokevirtual 318, 3) := dk_182 1 62 (dk_at dksX7_spare_0 1 rfl rfl)
theorem dX7_spare_4 : decode cX7_spare 4 = .ok (.ifCond .eq 11, 3) := dk_153 0 11 (dk_at dksX7_spare_0 4 rfl rfl)
theorem dX7_spare_7 : decode cX7_spare 7 = .ok (.aload_n 0, 1) := dk_42 (dk_at dksX7_spare_0 7 rfl rfl)
theorem dX7_spare_8 : decode cX7_spare 8 = .ok (.iload_n 1, 1) := dk_27 (dk_at dksX7_spare_0 8 rfl rfl)
theorem dX7_spare_9 : decode cX7_spare 9 = .ok (.invokevirtual 256, 3) := dk_182 1 0 (dk_at dksX7_spare_0 9 rfl rfl)
theorem dX7_spare_12 : decode cX7_spare 12 = .ok (.ifCond .ne 6, 3) := dk_154 0 6 (dk_at dksX7_spare_0 12 rfl rfl)
theorem dX7_spare_15 : decode cX7_spare 15 = .ok (.bipush (-2), 2) := dk_16 254 (dk_at dksX7_spare_0 15 rfl rfl)
theorem dX7_spare_17 : decode cX7_spare 17 = .ok (.ireturn, 1) := dk_172 (dk_at dksX7_spare_0 17 rfl rfl)
theorem dX7_spare_18 : decode cX7_spare 18 = .ok (.aload_n 0, 1) := dk_42 (dk_at dksX7_spare_0 18 rfl rfl)
theorem dX7_spare_19 : decode cX7_spare 19 = .ok (.invokevirtual 321, 3) := dk_182 1 65 (dk_at dksX7_spare_0 19 rfl rfl)
theorem dX7_spare_22 : decode cX7_spare 22 = .ok (.istore_n 2, 1) := dk_61 (dk_at dksX7_spare_0 22 rfl rfl)
theorem dX7_spare_23 : decode cX7_spare 23 = .ok (.aload_n 0, 1) := dk_42 (dk_at dksX7_spare_0 23 rfl rfl)
theorem dX7_spare_24 : decode cX7_spare 24 = .ok (.dup, 1) := dk_89 (dk_at dksX7_spare_1 0 rfl rfl)
theorem dX7_spare_25 : decode cX7_spare 25 = .ok (.getfield 282, 3) := dk_180 1 26 (dk_at dksX7_spare_1 1 rfl rfl)
theorem dX7_spare_28 : decode cX7_spare 28 = .ok (.iconst 1, 1) := dk_4 (dk_at dksX7_spare_1 4 rfl rfl)
theorem dX7_spare_29 : decode cX7_spare 29 = .ok (.iload_n 1, 1) := dk_27 (dk_at dksX7_spare_1 5 rfl rfl)
theorem dX7_spare_30 : decode cX7_spare 30 = .ok (.ishl, 1) := dk_120 (dk_at dksX7_spare_1 6 rfl rfl)
theorem dX7_spare_31 : decode cX7_spare 31 = .ok (.ior, 1) := dk_128 (dk_at dksX7_spare_1 7 rfl rfl)
theorem dX7_spare_32 : decode cX7_spare 32 = .ok (.putfield 282, 3) := dk_181 1 26 (dk_at dksX7_spare_1 8 rfl rfl)
theorem dX7_spare_35 : decode cX7_spare 35 = .ok (.aload_n 0, 1) := dk_42 (dk_at dksX7_spare_1 11 rfl rfl)
theorem dX7_spare_36 : decode cX7_spare 36 = .ok (.invokevirtual 311, 3) := dk_182 1 55 (dk_at dksX7_spare_1 12 rfl rfl)
theorem dX7_spare_39 : decode cX7_spare 39 = .ok (.aload_n 0, 1) := dk_42 (dk_at dksX7_spare_1 15 rfl rfl)
theorem dX7_spare_40 : decode cX7_spare 40 = .ok (.invokevirtual 321, 3) := dk_182 1 65 (dk_at dksX7_spare_1 16 rfl rfl)
theorem dX7_spare_43 : decode cX7_spare 43 = .ok (.iload_n 2, 1) := dk_28 (dk_at dksX7_spare_1 19 rfl rfl)
theorem dX7_spare_44 : decode cX7_spare 44 = .ok (.if_icmp .ne 7, 3) := dk_160 0 7 (dk_at dksX7_spare_1 20 rfl rfl)
theorem dX7_spare_47 : decode cX7_spare 47 = .ok (.iconst 1, 1) := dk_4 (dk_at dksX7_spare_1 23 rfl rfl)
theorem dX7_spare_48 : decode cX7_spare 48 = .ok (.goto 4, 3) := dk_167 0 4 (dk_at dksX7_spare_2 0 rfl rfl)
theorem dX7_spare_51 : decode cX7_spare 51 = .ok (.iconst 0, 1) := dk_3 (dk_at dksX7_spare_2 3 rfl rfl)
theorem dX7_spare_52 : decode cX7_spare 52 = .ok (.ireturn, 1) := dk_172 (dk_at dksX7_spare_2 4 rfl rfl)
abbrev cX7_room : ByteArray := prog_22_method_73_code
def yX7_room : MethodName := ⟨RX7, "room", "(I)I"⟩
def dkwX7_room_2 : List UInt8 := [167, 0, 4, 3, 128, 61, 132, 3, 1, 167, 255, 221, 28, 172]
abbrev dktX7_room_2 : List UInt8 := dkwX7_room_2 ++ []
def dkwX7_room_1 : List UInt8 := [182, 0, 96, 162, 0, 33, 28, 42, 180, 0, 37, 29, 51, 153, 0, 14, 4, 42, 29, 27, 182, 1, 29, 120]
abbrev dktX7_room_1 : List UInt8 := dkwX7_room_1 ++ dktX7_room_2
def dkwX7_room_0 : List UInt8 := [42, 182, 1, 62, 153, 0, 11, 42, 27, 182, 0, 252, 154, 0, 6, 16, 254, 172, 3, 61, 3, 62, 29, 42]
abbrev dktX7_room_0 : List UInt8 := dkwX7_room_0 ++ dktX7_room_1
theorem dksX7_room_0 : cX7_room.data.toList.drop 0 = dktX7_room_0 := by decide +kernel
theorem dksX7_room_1 : cX7_room.data.toList.drop 24 = dktX7_room_1 := dk_seg dksX7_room_0 24 rfl rfl
theorem dksX7_room_2 : cX7_room.data.toList.drop 48 = dktX7_room_2 := dk_seg dksX7_room_1 24 rfl rfl
theorem dX7_room_0 : decode cX7_room 0 = .ok (.aload_n 0, 1) := dk_42 (dk_at dksX7_room_0 0 rfl rfl)
theorem dX7_room_1 : decode cX7_room 1 = .ok (.invokevirtual 318, 3) := dk_182 1 62 (dk_at dksX7_room_0 1 rfl rfl)
theorem dX7_room_4 : decode cX7_room 4 = .ok (.ifCond .eq 11, 3) := dk_153 0 11 (dk_at dksX7_room_0 4 rfl rfl)
theorem dX7_room_7 : decode cX7_room 7 = .ok (.aload_n 0, 1) := dk_42 (dk_at dksX7_room_0 7 rfl rfl)
theorem dX7_room_8 : decode cX7_room 8 = .ok (.iload_n 1, 1) := dk_27 (dk_at dksX7_room_0 8 rfl rfl)
theorem dX7_room_9 : decode cX7_room 9 = .ok (.invokevirtual 252, 3) := dk_182 0 252 (dk_at dksX7_room_0 9 rfl rfl)
theorem dX7_room_12 : decode cX7_room 12 = .ok (.ifCond .ne 6, 3) := dk_154 0 6 (dk_at dksX7_room_0 12 rfl rfl)
theorem dX7_room_15 : decode cX7_room 15 = .ok (.bipush (-2), 2) := dk_16 254 (dk_at dksX7_room_0 15 rfl rfl)
theorem dX7_room_17 : decode cX7_room 17 = .ok (.ireturn, 1) := dk_172 (dk_at dksX7_room_0 17 rfl rfl)
theorem dX7_room_18 : decode cX7_room 18 = .ok (.iconst 0, 1) := dk_3 (dk_at dksX7_room_0 18 rfl rfl)
theorem dX7_room_19 : decode cX7_room 19 = .ok (.istore_n 2, 1) := dk_61 (dk_at dksX7_room_0 19 rfl rfl)
theorem dX7_room_20 : decode cX7_room 20 = .ok (.iconst 0, 1) := dk_3 (dk_at dksX7_room_0 20 rfl rfl)
theorem dX7_room_21 : decode cX7_room 21 = .ok (.istore_n 3, 1) := dk_62 (dk_at dksX7_room_0 21 rfl rfl)
theorem dX7_room_22 : decode cX7_room 22 = .ok (.iload_n 3, 1) := dk_29 (dk_at dksX7_room_0 22 rfl rfl)
theorem dX7_room_23 : decode cX7_room 23 = .ok (.aload_n 0, 1) := dk_42 (dk_at dksX7_room_0 23 rfl rfl)
theorem dX7_room_24 : decode cX7_room 24 = .ok (.invokevirtual 96, 3) := dk_182 0 96 (dk_at dksX7_room_1 0 rfl rfl)
theorem dX7_room_27 : decode cX7_room 27 = .ok (.if_icmp .ge 33, 3) := dk_162 0 33 (dk_at dksX7_room_1 3 rfl rfl)
theorem dX7_room_30 : decode cX7_room 30 = .ok (.iload_n 2, 1) := dk_28 (dk_at dksX7_room_1 6 rfl rfl)
theorem dX7_room_31 : decode cX7_room 31 = .ok (.aload_n 0, 1) := dk_42 (dk_at dksX7_room_1 7 rfl rfl)
theorem dX7_room_32 : decode cX7_room 32 = .ok (.getfield 37, 3) := dk_180 0 37 (dk_at dksX7_room_1 8 rfl rfl)
theorem dX7_room_35 : decode cX7_room 35 = .ok (.iload_n 3, 1) := dk_29 (dk_at dksX7_room_1 11 rfl rfl)
theorem dX7_room_36 : decode cX7_room 36 = .ok (.baload, 1) := dk_51 (dk_at dksX7_room_1 12 rfl rfl)
theorem dX7_room_37 : decode cX7_room 37 = .ok (.ifCond .eq 14, 3) := dk_153 0 14 (dk_at dksX7_room_1 13 rfl rfl)
theorem dX7_room_40 : decode cX7_room 40 = .ok (.iconst 1, 1) := dk_4 (dk_at dksX7_room_1 16 rfl rfl)
theorem dX7_room_41 : decode cX7_room 41 = .ok (.aload_n 0, 1) := dk_42 (dk_at dksX7_room_1 17 rfl rfl)
theorem dX7_room_42 : decode cX7_room 42 = .ok (.iload_n 3, 1) := dk_29 (dk_at dksX7_room_1 18 rfl rfl)
theorem dX7_room_43 : decode cX7_room 43 = .ok (.iload_n 1, 1) := dk_27 (dk_at dksX7_room_1 19 rfl rfl)
theorem dX7_room_44 : decode cX7_room 44 = .ok (.invokevirtual 285, 3) := dk_182 1 29 (dk_at dksX7_room_1 20 rfl rfl)
theorem dX7_room_47 : decode cX7_room 47 = .ok (.ishl, 1) := dk_120 (dk_at dksX7_room_1 23 rfl rfl)
theorem dX7_room_48 : decode cX7_room 48 = .ok (.goto 4, 3) := dk_167 0 4 (dk_at dksX7_room_2 0 rfl rfl)
theorem dX7_room_51 : decode cX7_room 51 = .ok (.iconst 0, 1) := dk_3 (dk_at dksX7_room_2 3 rfl rfl)
theorem dX7_room_52 : decode cX7_room 52 = .ok (.ior, 1) := dk_128 (dk_at dksX7_room_2 4 rfl rfl)
theorem dX7_room_53 : decode cX7_room 53 = .ok (.istore_n 2, 1) := dk_61 (dk_at dksX7_room_2 5 rfl rfl)
theorem dX7_room_54 : decode cX7_room 54 = .ok (.iinc 3 1, 3) := dk_132 3 1 (dk_at dksX7_room_2 6 rfl rfl)
theorem dX7_room_57 : decode cX7_room 57 = .ok (.goto (-35), 3) := dk_167 255 221 (dk_at dksX7_room_2 9 rfl rfl)
theorem dX7_room_60 : decode cX7_room 60 = .ok (.iload_n 2, 1) := dk_28 (dk_at dksX7_room_2 12 rfl rfl)
theorem dX7_room_61 : decode cX7_room 61 = .ok (.ireturn, 1) := dk_172 (dk_at dksX7_room_2 13 rfl rfl)
abbrev cX7_does : ByteArray := prog_22_method_74_code
def yX7_does : MethodName := ⟨RX7, "does", "(II)I"⟩
def dkwX7_does_1 : List UInt8 := [42, 27, 28, 182, 1, 69, 167, 0, 5, 16, 254, 172]
abbrev dktX7_does_1 : List UInt8 := dkwX7_does_1 ++ []
def dkwX7_does_0 : List UInt8 := [42, 182, 1, 62, 153, 0, 29, 42, 28, 133, 182, 1, 58, 153, 0, 20, 42, 27, 182, 1, 11, 153, 0, 12]
abbrev dktX7_does_0 : List UInt8 := dkwX7_does_0 ++ dktX7_does_1
theorem dksX7_does_0 : cX7_does.data.toList.drop 0 = dktX7_does_0 := by decide +kernel
theorem dksX7_does_1 : cX7_does.data.toList.drop 24 = dktX7_does_1 := dk_seg dksX7_does_0 24 rfl rfl
theorem dX7_does_0 : decode cX7_does 0 = .ok (.aload_n 0, 1) := dk_42 (dk_at dksX7_does_0 0 rfl rfl)
theorem dX7_does_1 : decode cX7_does 1 = .ok (.invokevirtual 318, 3) := dk_182 1 62 (dk_at dksX7_does_0 1 rfl rfl)
theorem dX7_does_4 : decode cX7_does 4 = .ok (.ifCond .eq 29, 3) := dk_153 0 29 (dk_at dksX7_does_0 4 rfl rfl)
theorem dX7_does_7 : decode cX7_does 7 = .ok (.aload_n 0, 1) := dk_42 (dk_at dksX7_does_0 7 rfl rfl)
theorem dX7_does_8 : decode cX7_does 8 = .ok (.iload_n 2, 1) := dk_28 (dk_at dksX7_does_0 8 rfl rfl)
theorem dX7_does_9 : decode cX7_does 9 = .ok (.i2l, 1) := dk_133 (dk_at dksX7_does_0 9 rfl rfl)
theorem dX7_does_10 : decode cX7_does 10 = .ok (.invokevirtual 314, 3) := dk_182 1 58 (dk_at dksX7_does_0 10 rfl rfl)
theorem dX7_does_13 : decode cX7_does 13 = .ok (.ifCond .eq 20, 3) := dk_153 0 20 (dk_at dksX7_does_0 13 rfl rfl)
theorem dX7_does_16 : decode cX7_does 16 = .ok (.aload_n 0, 1) := dk_42 (dk_at dksX7_does_0 16 rfl rfl)
theorem dX7_does_17 : decode cX7_does 17 = .ok (.iload_n 1, 1) := dk_27 (dk_at dksX7_does_0 17 rfl rfl)
theorem dX7_does_18 : decode cX7_does 18 = .ok (.invokevirtual 267, 3) := dk_182 1 11 (dk_at dksX7_does_0 18 rfl rfl)
theorem dX7_does_21 : decode cX7_does 21 = .ok (.ifCond .eq 12, 3) := dk_153 0 12 (dk_at dksX7_does_0 21 rfl rfl)
theorem dX7_does_24 : decode cX7_does 24 = .ok (.aload_n 0, 1) := dk_42 (dk_at dksX7_does_1 0 rfl rfl)
theorem dX7_does_25 : decode cX7_does 25 = .ok (.iload_n 1, 1) := dk_27 (dk_at dksX7_does_1 1 rfl rfl)
theorem dX7_does_26 : decode cX7_does 26 = .ok (.iload_n 2, 1) := dk_28 (dk_at dksX7_does_1 2 rfl rfl)
theorem dX7_does_27 : decode cX7_does 27 = .ok (.invokevirtual 325, 3) := dk_182 1 69 (dk_at dksX7_does_1 3 rfl rfl)
theorem dX7_does_30 : decode cX7_does 30 = .ok (.goto 5, 3) := dk_167 0 5 (dk_at dksX7_does_1 6 rfl rfl)
theorem dX7_does_33 : decode cX7_does 33 = .ok (.bipush (-2), 2) := dk_16 254 (dk_at dksX7_does_1 9 rfl rfl)
theorem dX7_does_35 : decode cX7_does 35 = .ok (.ireturn, 1) := dk_172 (dk_at dksX7_does_1 11 rfl rfl)
abbrev cX7_goesTo : ByteArray := prog_22_method_58_code
def yX7_goesTo : MethodName := ⟨RX7, "goesTo", "(II)I"⟩
def dkwX7_goesTo_0 : List UInt8 := [42, 180, 0, 40, 16, 64, 27, 104, 28, 96, 46, 172]
abbrev dktX7_goesTo_0 : List UInt8 := dkwX7_goesTo_0 ++ []
theorem dksX7_goesTo_0 : cX7_goesTo.data.toList.drop 0 = dktX7_goesTo_0 := by decide +kernel
theorem dX7_goesTo_0 : decode cX7_goesTo 0 = .ok (.aload_n 0, 1) := dk_42 (dk_at dksX7_goesTo_0 0 rfl rfl)
theorem dX7_goesTo_1 : decode cX7_goesTo 1 = .ok (.getfield 40, 3) := dk_180 0 40 (dk_at dksX7_goesTo_0 1 rfl rfl)
theorem dX7_goesTo_4 : decode cX7_goesTo 4 = .ok (.bipush 64, 2) := dk_16 64 (dk_at dksX7_goesTo_0 4 rfl rfl)
theorem dX7_goesTo_6 : decode cX7_goesTo 6 = .ok (.iload_n 1, 1) := dk_27 (dk_at dksX7_goesTo_0 6 rfl rfl)
theorem dX7_goesTo_7 : decode cX7_goesTo 7 = .ok (.imul, 1) := dk_104 (dk_at dksX7_goesTo_0 7 rfl rfl)
theorem dX7_goesTo_8 : decode cX7_goesTo 8 = .ok (.iload_n 2, 1) := dk_28 (dk_at dksX7_goesTo_0 8 rfl rfl)
theorem dX7_goesTo_9 : decode cX7_goesTo 9 = .ok (.iadd, 1) := dk_96 (dk_at dksX7_goesTo_0 9 rfl rfl)
theorem dX7_goesTo_10 : decode cX7_goesTo 10 = .ok (.iaload, 1) := dk_46 (dk_at dksX7_goesTo_0 10 rfl rfl)
theorem dX7_goesTo_11 : decode cX7_goesTo 11 = .ok (.ireturn, 1) := dk_172 (dk_at dksX7_goesTo_0 11 rfl rfl)
abbrev cX7_works : ByteArray := prog_22_method_76_code
def yX7_works : MethodName := ⟨RX7, "works", "(I)I"⟩
def dkwX7_works_1 : List UInt8 := [16, 254, 172]
abbrev dktX7_works_1 : List UInt8 := dkwX7_works_1 ++ []
def dkwX7_works_0 : List UInt8 := [42, 182, 1, 62, 153, 0, 19, 42, 27, 182, 1, 11, 153, 0, 11, 42, 27, 182, 1, 72, 167, 0, 5]
abbrev dktX7_works_0 : List UInt8 := dkwX7_works_0 ++ dktX7_works_1
theorem dksX7_works_0 : cX7_works.data.toList.drop 0 = dktX7_works_0 := by decide +kernel
theorem dksX7_works_1 : cX7_works.data.toList.drop 23 = dktX7_works_1 := dk_seg dksX7_works_0 23 rfl rfl
theorem dX7_works_0 : decode cX7_works 0 = .ok (.aload_n 0, 1) := dk_42 (dk_at dksX7_works_0 0 rfl rfl)
theorem dX7_works_1 : decode cX7_works 1 = .ok (.invokevirtual 318, 3) := dk_182 1 62 (dk_at dksX7_works_0 1 rfl rfl)
theorem dX7_works_4 : decode cX7_works 4 = .ok (.ifCond .eq 19, 3) := dk_153 0 19 (dk_at dksX7_works_0 4 rfl rfl)
theorem dX7_works_7 : decode cX7_works 7 = .ok (.aload_n 0, 1) := dk_42 (dk_at dksX7_works_0 7 rfl rfl)
theorem dX7_works_8 : decode cX7_works 8 = .ok (.iload_n 1, 1) := dk_27 (dk_at dksX7_works_0 8 rfl rfl)
theorem dX7_works_9 : decode cX7_works 9 = .ok (.invokevirtual 267, 3) := dk_182 1 11 (dk_at dksX7_works_0 9 rfl rfl)
theorem dX7_works_12 : decode cX7_works 12 = .ok (.ifCond .eq 11, 3) := dk_153 0 11 (dk_at dksX7_works_0 12 rfl rfl)
theorem dX7_works_15 : decode cX7_works 15 = .ok (.aload_n 0, 1) := dk_42 (dk_at dksX7_works_0 15 rfl rfl)
theorem dX7_works_16 : decode cX7_works 16 = .ok (.iload_n 1, 1) := dk_27 (dk_at dksX7_works_0 16 rfl rfl)
theorem dX7_works_17 : decode cX7_works 17 = .ok (.invokevirtual 328, 3) := dk_182 1 72 (dk_at dksX7_works_0 17 rfl rfl)
theorem dX7_works_20 : decode cX7_works 20 = .ok (.goto 5, 3) := dk_167 0 5 (dk_at dksX7_works_0 20 rfl rfl)
theorem dX7_works_23 : decode cX7_works 23 = .ok (.bipush (-2), 2) := dk_16 254 (dk_at dksX7_works_1 0 rfl rfl)
theorem dX7_works_25 : decode cX7_works 25 = .ok (.ireturn, 1) := dk_172 (dk_at dksX7_works_1 2 rfl rfl)
abbrev cX7_worksOf : ByteArray := prog_22_method_75_code
def yX7_worksOf : MethodName := ⟨RX7, "worksOf", "(I)I"⟩
def dkwX7_worksOf_1 : List UInt8 := [29, 182, 1, 69, 2, 159, 0, 7, 4, 167, 0, 4, 3, 96, 61, 132, 3, 1, 167, 255, 218, 28, 172]
abbrev dktX7_worksOf_1 : List UInt8 := dkwX7_worksOf_1 ++ []
def dkwX7_worksOf_0 : List UInt8 := [3, 61, 3, 62, 29, 42, 182, 0, 96, 162, 0, 36, 28, 42, 180, 0, 37, 29, 51, 153, 0, 17, 42, 27]
abbrev dktX7_worksOf_0 : List UInt8 := dkwX7_worksOf_0 ++ dktX7_worksOf_1
theorem dksX7_worksOf_0 : cX7_worksOf.data.toList.drop 0 = dktX7_worksOf_0 := by decide +kernel
theorem dksX7_worksOf_1 : cX7_worksOf.data.toList.drop 24 = dktX7_worksOf_1 := dk_seg dksX7_worksOf_0 24 rfl rfl
theorem dX7_worksOf_0 : decode cX7_worksOf 0 = .ok (.iconst 0, 1) := dk_3 (dk_at dksX7_worksOf_0 0 rfl rfl)
theorem dX7_worksOf_1 : decode cX7_worksOf 1 = .ok (.istore_n 2, 1) := dk_61 (dk_at dksX7_worksOf_0 1 rfl rfl)
theorem dX7_worksOf_2 : decode cX7_worksOf 2 = .ok (.iconst 0, 1) := dk_3 (dk_at dksX7_worksOf_0 2 rfl rfl)
theorem dX7_worksOf_3 : decode cX7_worksOf 3 = .ok (.istore_n 3, 1) := dk_62 (dk_at dksX7_worksOf_0 3 rfl rfl)
theorem dX7_worksOf_4 : decode cX7_worksOf 4 = .ok (.iload_n 3, 1) := dk_29 (dk_at dksX7_worksOf_0 4 rfl rfl)
theorem dX7_worksOf_5 : decode cX7_worksOf 5 = .ok (.aload_n 0, 1) := dk_42 (dk_at dksX7_worksOf_0 5 rfl rfl)
theorem dX7_worksOf_6 : decode cX7_worksOf 6 = .ok (.invokevirtual 96, 3) := dk_182 0 96 (dk_at dksX7_worksOf_0 6 rfl rfl)
theorem dX7_worksOf_9 : decode cX7_worksOf 9 = .ok (.if_icmp .ge 36, 3) := dk_162 0 36 (dk_at dksX7_worksOf_0 9 rfl rfl)
theorem dX7_worksOf_12 : decode cX7_worksOf 12 = .ok (.iload_n 2, 1) := dk_28 (dk_at dksX7_worksOf_0 12 rfl rfl)
theorem dX7_worksOf_13 : decode cX7_worksOf 13 = .ok (.aload_n 0, 1) := dk_42 (dk_at dksX7_worksOf_0 13 rfl rfl)
theorem dX7_worksOf_14 : decode cX7_worksOf 14 = .ok (.getfield 37, 3) := dk_180 0 37 (dk_at dksX7_worksOf_0 14 rfl rfl)
theorem dX7_worksOf_17 : decode cX7_worksOf 17 = .ok (.iload_n 3, 1) := dk_29 (dk_at dksX7_worksOf_0 17 rfl rfl)
theorem dX7_worksOf_18 : decode cX7_worksOf 18 = .ok (.baload, 1) := dk_51 (dk_at dksX7_worksOf_0 18 rfl rfl)
theorem dX7_worksOf_19 : decode cX7_worksOf 19 = .ok (.ifCond .eq 17, 3) := dk_153 0 17 (dk_at dksX7_worksOf_0 19 rfl rfl)
theorem dX7_worksOf_22 : decode cX7_worksOf 22 = .ok (.aload_n 0, 1) := dk_42 (dk_at dksX7_worksOf_0 22 rfl rfl)
theorem dX7_worksOf_23 : decode cX7_worksOf 23 = .ok (.iload_n 1, 1) := dk_27 (dk_at dksX7_worksOf_0 23 rfl rfl)
theorem dX7_worksOf_24 : decode cX7_worksOf 24 = .ok (.iload_n 3, 1) := dk_29 (dk_at dksX7_worksOf_1 0 rfl rfl)
theorem dX7_worksOf_25 : decode cX7_worksOf 25 = .ok (.invokevirtual 325, 3) := dk_182 1 69 (dk_at dksX7_worksOf_1 1 rfl rfl)
theorem dX7_worksOf_28 : decode cX7_worksOf 28 = .ok (.iconst (-1), 1) := dk_2 (dk_at dksX7_worksOf_1 4 rfl rfl)
theorem dX7_worksOf_29 : decode cX7_worksOf 29 = .ok (.if_icmp .eq 7, 3) := dk_159 0 7 (dk_at dksX7_worksOf_1 5 rfl rfl)
theorem dX7_worksOf_32 : decode cX7_worksOf 32 = .ok (.iconst 1, 1) := dk_4 (dk_at dksX7_worksOf_1 8 rfl rfl)
theorem dX7_worksOf_33 : decode cX7_worksOf 33 = .ok (.goto 4, 3) := dk_167 0 4 (dk_at dksX7_worksOf_1 9 rfl rfl)
theorem dX7_worksOf_36 : decode cX7_worksOf 36 = .ok (.iconst 0, 1) := dk_3 (dk_at dksX7_worksOf_1 12 rfl rfl)
theorem dX7_worksOf_37 : decode cX7_worksOf 37 = .ok (.iadd, 1) := dk_96 (dk_at dksX7_worksOf_1 13 rfl rfl)
theorem dX7_worksOf_38 : decode cX7_worksOf 38 = .ok (.istore_n 2, 1) := dk_61 (dk_at dksX7_worksOf_1 14 rfl rfl)
theorem dX7_worksOf_39 : decode cX7_worksOf 39 = .ok (.iinc 3 1, 3) := dk_132 3 1 (dk_at dksX7_worksOf_1 15 rfl rfl)
theorem dX7_worksOf_42 : decode cX7_worksOf 42 = .ok (.goto (-38), 3) := dk_167 255 218 (dk_at dksX7_worksOf_1 18 rfl rfl)
theorem dX7_worksOf_45 : decode cX7_worksOf 45 = .ok (.iload_n 2, 1) := dk_28 (dk_at dksX7_worksOf_1 21 rfl rfl)
theorem dX7_worksOf_46 : decode cX7_worksOf 46 = .ok (.ireturn, 1) := dk_172 (dk_at dksX7_worksOf_1 22 rfl rfl)
abbrev cX7_opens : ByteArray := prog_22_method_78_code
def yX7_opens : MethodName := ⟨RX7, "opens", "(I)I"⟩
def dkwX7_opens_1 : List UInt8 := [16, 254, 172]
abbrev dktX7_opens_1 : List UInt8 := dkwX7_opens_1 ++ []
def dkwX7_opens_0 : List UInt8 := [42, 182, 1, 62, 153, 0, 20, 42, 27, 133, 182, 1, 58, 153, 0, 11, 42, 27, 182, 1, 75, 167, 0, 5]
abbrev dktX7_opens_0 : List UInt8 := dkwX7_opens_0 ++ dktX7_opens_1
theorem dksX7_opens_0 : cX7_opens.data.toList.drop 0 = dktX7_opens_0 := by decide +kernel
theorem dksX7_opens_1 : cX7_opens.data.toList.drop 24 = dktX7_opens_1 := dk_seg dksX7_opens_0 24 rfl rfl
theorem dX7_opens_0 : decode cX7_opens 0 = .ok (.aload_n 0, 1) := dk_42 (dk_at dksX7_opens_0 0 rfl rfl)
theorem dX7_opens_1 : decode cX7_opens 1 = .ok (.invokevirtual 318, 3) := dk_182 1 62 (dk_at dksX7_opens_0 1 rfl rfl)
theorem dX7_opens_4 : decode cX7_opens 4 = .ok (.ifCond .eq 20, 3) := dk_153 0 20 (dk_at dksX7_opens_0 4 rfl rfl)
theorem dX7_opens_7 : decode cX7_opens 7 = .ok (.aload_n 0, 1) := dk_42 (dk_at dksX7_opens_0 7 rfl rfl)
theorem dX7_opens_8 : decode cX7_opens 8 = .ok (.iload_n 1, 1) := dk_27 (dk_at dksX7_opens_0 8 rfl rfl)
theorem dX7_opens_9 : decode cX7_opens 9 = .ok (.i2l, 1) := dk_133 (dk_at dksX7_opens_0 9 rfl rfl)
theorem dX7_opens_10 : decode cX7_opens 10 = .ok (.invokevirtual 314, 3) := dk_182 1 58 (dk_at dksX7_opens_0 10 rfl rfl)
theorem dX7_opens_13 : decode cX7_opens 13 = .ok (.ifCond .eq 11, 3) := dk_153 0 11 (dk_at dksX7_opens_0 13 rfl rfl)
theorem dX7_opens_16 : decode cX7_opens 16 = .ok (.aload_n 0, 1) := dk_42 (dk_at dksX7_opens_0 16 rfl rfl)
theorem dX7_opens_17 : decode cX7_opens 17 = .ok (.iload_n 1, 1) := dk_27 (dk_at dksX7_opens_0 17 rfl rfl)
theorem dX7_opens_18 : decode cX7_opens 18 = .ok (.invokevirtual 331, 3) := dk_182 1 75 (dk_at dksX7_opens_0 18 rfl rfl)
theorem dX7_opens_21 : decode cX7_opens 21 = .ok (.goto 5, 3) := dk_167 0 5 (dk_at dksX7_opens_0 21 rfl rfl)
theorem dX7_opens_24 : decode cX7_opens 24 = .ok (.bipush (-2), 2) := dk_16 254 (dk_at dksX7_opens_1 0 rfl rfl)
theorem dX7_opens_26 : decode cX7_opens 26 = .ok (.ireturn, 1) := dk_172 (dk_at dksX7_opens_1 2 rfl rfl)
abbrev cX7_opensOf : ByteArray := prog_22_method_77_code
def yX7_opensOf : MethodName := ⟨RX7, "opensOf", "(I)I"⟩
def dkwX7_opensOf_1 : List UInt8 := [29, 120, 167, 0, 4, 3, 128, 61, 132, 3, 1, 167, 255, 225, 28, 172]
abbrev dktX7_opensOf_1 : List UInt8 := dkwX7_opensOf_1 ++ []
def dkwX7_opensOf_0 : List UInt8 := [3, 61, 3, 62, 29, 42, 182, 0, 84, 162, 0, 29, 28, 42, 29, 27, 182, 1, 69, 2, 159, 0, 9, 4]
abbrev dktX7_opensOf_0 : List UInt8 := dkwX7_opensOf_0 ++ dktX7_opensOf_1
theorem dksX7_opensOf_0 : cX7_opensOf.data.toList.drop 0 = dktX7_opensOf_0 := by decide +kernel
theorem dksX7_opensOf_1 : cX7_opensOf.data.toList.drop 24 = dktX7_opensOf_1 := dk_seg dksX7_opensOf_0 24 rfl rfl
theorem dX7_opensOf_0 : decode cX7_opensOf 0 = .ok (.iconst 0, 1) := dk_3 (dk_at dksX7_opensOf_0 0 rfl rfl)
theorem dX7_opensOf_1 : decode cX7_opensOf 1 = .ok (.istore_n 2, 1) := dk_61 (dk_at dksX7_opensOf_0 1 rfl rfl)
theorem dX7_opensOf_2 : decode cX7_opensOf 2 = .ok (.iconst 0, 1) := dk_3 (dk_at dksX7_opensOf_0 2 rfl rfl)
theorem dX7_opensOf_3 : decode cX7_opensOf 3 = .ok (.istore_n 3, 1) := dk_62 (dk_at dksX7_opensOf_0 3 rfl rfl)
theorem dX7_opensOf_4 : decode cX7_opensOf 4 = .ok (.iload_n 3, 1) := dk_29 (dk_at dksX7_opensOf_0 4 rfl rfl)
theorem dX7_opensOf_5 : decode cX7_opensOf 5 = .ok (.aload_n 0, 1) := dk_42 (dk_at dksX7_opensOf_0 5 rfl rfl)
theorem dX7_opensOf_6 : decode cX7_opensOf 6 = .ok (.invokevirtual 84, 3) := dk_182 0 84 (dk_at dksX7_opensOf_0 6 rfl rfl)
theorem dX7_opensOf_9 : decode cX7_opensOf 9 = .ok (.if_icmp .ge 29, 3) := dk_162 0 29 (dk_at dksX7_opensOf_0 9 rfl rfl)
theorem dX7_opensOf_12 : decode cX7_opensOf 12 = .ok (.iload_n 2, 1) := dk_28 (dk_at dksX7_opensOf_0 12 rfl rfl)
theorem dX7_opensOf_13 : decode cX7_opensOf 13 = .ok (.aload_n 0, 1) := dk_42 (dk_at dksX7_opensOf_0 13 rfl rfl)
theorem dX7_opensOf_14 : decode cX7_opensOf 14 = .ok (.iload_n 3, 1) := dk_29 (dk_at dksX7_opensOf_0 14 rfl rfl)
theorem dX7_opensOf_15 : decode cX7_opensOf 15 = .ok (.iload_n 1, 1) := dk_27 (dk_at dksX7_opensOf_0 15 rfl rfl)
theorem dX7_opensOf_16 : decode cX7_opensOf 16 = .ok (.invokevirtual 325, 3) := dk_182 1 69 (dk_at dksX7_opensOf_0 16 rfl rfl)
theorem dX7_opensOf_19 : decode cX7_opensOf 19 = .ok (.iconst (-1), 1) := dk_2 (dk_at dksX7_opensOf_0 19 rfl rfl)
theorem dX7_opensOf_20 : decode cX7_opensOf 20 = .ok (.if_icmp .eq 9, 3) := dk_159 0 9 (dk_at dksX7_opensOf_0 20 rfl rfl)
theorem dX7_opensOf_23 : decode cX7_opensOf 23 = .ok (.iconst 1, 1) := dk_4 (dk_at dksX7_opensOf_0 23 rfl rfl)
theorem dX7_opensOf_24 : decode cX7_opensOf 24 = .ok (.iload_n 3, 1) := dk_29 (dk_at dksX7_opensOf_1 0 rfl rfl)
theorem dX7_opensOf_25 : decode cX7_opensOf 25 = .ok (.ishl, 1) := dk_120 (dk_at dksX7_opensOf_1 1 rfl rfl)
theorem dX7_opensOf_26 : decode cX7_opensOf 26 = .ok (.goto 4, 3) := dk_167 0 4 (dk_at dksX7_opensOf_1 2 rfl rfl)
theorem dX7_opensOf_29 : decode cX7_opensOf 29 = .ok (.iconst 0, 1) := dk_3 (dk_at dksX7_opensOf_1 5 rfl rfl)
theorem dX7_opensOf_30 : decode cX7_opensOf 30 = .ok (.ior, 1) := dk_128 (dk_at dksX7_opensOf_1 6 rfl rfl)
theorem dX7_opensOf_31 : decode cX7_opensOf 31 = .ok (.istore_n 2, 1) := dk_61 (dk_at dksX7_opensOf_1 7 rfl rfl)
theorem dX7_opensOf_32 : decode cX7_opensOf 32 = .ok (.iinc 3 1, 3) := dk_132 3 1 (dk_at dksX7_opensOf_1 8 rfl rfl)
theorem dX7_opensOf_35 : decode cX7_opensOf 35 = .ok (.goto (-31), 3) := dk_167 255 225 (dk_at dksX7_opensOf_1 11 rfl rfl)
theorem dX7_opensOf_38 : decode cX7_opensOf 38 = .ok (.iload_n 2, 1) := dk_28 (dk_at dksX7_opensOf_1 14 rfl rfl)
theorem dX7_opensOf_39 : decode cX7_opensOf 39 = .ok (.ireturn, 1) := dk_172 (dk_at dksX7_opensOf_1 15 rfl rfl)
abbrev cX7_dead : ByteArray := prog_22_method_79_code
def yX7_dead : MethodName := ⟨RX7, "dead", "()I"⟩
def dkwX7_dead_2 : List UInt8 := [132, 2, 1, 167, 255, 220, 27, 172]
abbrev dktX7_dead_2 : List UInt8 := dkwX7_dead_2 ++ []
def dkwX7_dead_1 : List UInt8 := [180, 0, 37, 28, 51, 153, 0, 15, 42, 28, 182, 1, 75, 154, 0, 7, 4, 167, 0, 4, 3, 96, 60]
abbrev dktX7_dead_1 : List UInt8 := dkwX7_dead_1 ++ dktX7_dead_2
def dkwX7_dead_0 : List UInt8 := [42, 182, 1, 62, 154, 0, 6, 16, 254, 172, 3, 60, 3, 61, 28, 42, 182, 0, 96, 162, 0, 34, 27, 42]
abbrev dktX7_dead_0 : List UInt8 := dkwX7_dead_0 ++ dktX7_dead_1
theorem dksX7_dead_0 : cX7_dead.data.toList.drop 0 = dktX7_dead_0 := by decide +kernel
theorem dksX7_dead_1 : cX7_dead.data.toList.drop 24 = dktX7_dead_1 := dk_seg dksX7_dead_0 24 rfl rfl
theorem dksX7_dead_2 : cX7_dead.data.toList.drop 47 = dktX7_dead_2 := dk_seg dksX7_dead_1 23 rfl rfl
theorem dX7_dead_0 : decode cX7_dead 0 = .ok (.aload_n 0, 1) := dk_42 (dk_at dksX7_dead_0 0 rfl rfl)
theorem dX7_dead_1 : decode cX7_dead 1 = .ok (.invokevirtual 318, 3) := dk_182 1 62 (dk_at dksX7_dead_0 1 rfl rfl)
theorem dX7_dead_4 : decode cX7_dead 4 = .ok (.ifCond .ne 6, 3) := dk_154 0 6 (dk_at dksX7_dead_0 4 rfl rfl)
theorem dX7_dead_7 : decode cX7_dead 7 = .ok (.bipush (-2), 2) := dk_16 254 (dk_at dksX7_dead_0 7 rfl rfl)
theorem dX7_dead_9 : decode cX7_dead 9 = .ok (.ireturn, 1) := dk_172 (dk_at dksX7_dead_0 9 rfl rfl)
theorem dX7_dead_10 : decode cX7_dead 10 = .ok (.iconst 0, 1) := dk_3 (dk_at dksX7_dead_0 10 rfl rfl)
theorem dX7_dead_11 : decode cX7_dead 11 = .ok (.istore_n 1, 1) := dk_60 (dk_at dksX7_dead_0 11 rfl rfl)
theorem dX7_dead_12 : decode cX7_dead 12 = .ok (.iconst 0, 1) := dk_3 (dk_at dksX7_dead_0 12 rfl rfl)
theorem dX7_dead_13 : decode cX7_dead 13 = .ok (.istore_n 2, 1) := dk_61 (dk_at dksX7_dead_0 13 rfl rfl)
theorem dX7_dead_14 : decode cX7_dead 14 = .ok (.iload_n 2, 1) := dk_28 (dk_at dksX7_dead_0 14 rfl rfl)
theorem dX7_dead_15 : decode cX7_dead 15 = .ok (.aload_n 0, 1) := dk_42 (dk_at dksX7_dead_0 15 rfl rfl)
theorem dX7_dead_16 : decode cX7_dead 16 = .ok (.invokevirtual 96, 3) := dk_182 0 96 (dk_at dksX7_dead_0 16 rfl rfl)
theorem dX7_dead_19 : decode cX7_dead 19 = .ok (.if_icmp .ge 34, 3) := dk_162 0 34 (dk_at dksX7_dead_0 19 rfl rfl)
theorem dX7_dead_22 : decode cX7_dead 22 = .ok (.iload_n 1, 1) := dk_27 (dk_at dksX7_dead_0 22 rfl rfl)
theorem dX7_dead_23 : decode cX7_dead 23 = .ok (.aload_n 0, 1) := dk_42 (dk_at dksX7_dead_0 23 rfl rfl)
theorem dX7_dead_24 : decode cX7_dead 24 = .ok (.getfield 37, 3) := dk_180 0 37 (dk_at dksX7_dead_1 0 rfl rfl)
theorem dX7_dead_27 : decode cX7_dead 27 = .ok (.iload_n 2, 1) := dk_28 (dk_at dksX7_dead_1 3 rfl rfl)
theorem dX7_dead_28 : decode cX7_dead 28 = .ok (.baload, 1) := dk_51 (dk_at dksX7_dead_1 4 rfl rfl)
theorem dX7_dead_29 : decode cX7_dead 29 = .ok (.ifCond .eq 15, 3) := dk_153 0 15 (dk_at dksX7_dead_1 5 rfl rfl)
theorem dX7_dead_32 : decode cX7_dead 32 = .ok (.aload_n 0, 1) := dk_42 (dk_at dksX7_dead_1 8 rfl rfl)
theorem dX7_dead_33 : decode cX7_dead 33 = .ok (.iload_n 2, 1) := dk_28 (dk_at dksX7_dead_1 9 rfl rfl)
theorem dX7_dead_34 : decode cX7_dead 34 = .ok (.invokevirtual 331, 3) := dk_182 1 75 (dk_at dksX7_dead_1 10 rfl rfl)
theorem dX7_dead_37 : decode cX7_dead 37 = .ok (.ifCond .ne 7, 3) := dk_154 0 7 (dk_at dksX7_dead_1 13 rfl rfl)
theorem dX7_dead_40 : decode cX7_dead 40 = .ok (.iconst 1, 1) := dk_4 (dk_at dksX7_dead_1 16 rfl rfl)
theorem dX7_dead_41 : decode cX7_dead 41 = .ok (.goto 4, 3) := dk_167 0 4 (dk_at dksX7_dead_1 17 rfl rfl)
theorem dX7_dead_44 : decode cX7_dead 44 = .ok (.iconst 0, 1) := dk_3 (dk_at dksX7_dead_1 20 rfl rfl)
theorem dX7_dead_45 : decode cX7_dead 45 = .ok (.iadd, 1) := dk_96 (dk_at dksX7_dead_1 21 rfl rfl)
theorem dX7_dead_46 : decode cX7_dead 46 = .ok (.istore_n 1, 1) := dk_60 (dk_at dksX7_dead_1 22 rfl rfl)
theorem dX7_dead_47 : decode cX7_dead 47 = .ok (.iinc 2 1, 3) := dk_132 2 1 (dk_at dksX7_dead_2 0 rfl rfl)
theorem dX7_dead_50 : decode cX7_dead 50 = .ok (.goto (-36), 3) := dk_167 255 220 (dk_at dksX7_dead_2 3 rfl rfl)
theorem dX7_dead_53 : decode cX7_dead 53 = .ok (.iload_n 1, 1) := dk_27 (dk_at dksX7_dead_2 6 rfl rfl)
theorem dX7_dead_54 : decode cX7_dead 54 = .ok (.ireturn, 1) := dk_172 (dk_at dksX7_dead_2 7 rfl rfl)
abbrev cX7_commute : ByteArray := prog_22_method_81_code
def yX7_commute : MethodName := ⟨RX7, "commute", "(II)I"⟩
def dkwX7_commute_1 : List UInt8 := [16, 254, 172, 42, 27, 28, 182, 1, 78, 153, 0, 7, 4, 167, 0, 4, 3, 172]
abbrev dktX7_commute_1 : List UInt8 := dkwX7_commute_1 ++ []
def dkwX7_commute_0 : List UInt8 := [42, 182, 1, 62, 153, 0, 19, 42, 27, 182, 1, 11, 153, 0, 11, 42, 28, 182, 1, 11, 154, 0, 6]
abbrev dktX7_commute_0 : List UInt8 := dkwX7_commute_0 ++ dktX7_commute_1
theorem dksX7_commute_0 : cX7_commute.data.toList.drop 0 = dktX7_commute_0 := by decide +kernel
theorem dksX7_commute_1 : cX7_commute.data.toList.drop 23 = dktX7_commute_1 := dk_seg dksX7_commute_0 23 rfl rfl
theorem dX7_commute_0 : decode cX7_commute 0 = .ok (.aload_n 0, 1) := dk_42 (dk_at dksX7_commute_0 0 rfl rfl)
theorem dX7_commute_1 : decode cX7_commute 1 = .ok (.invokevirtual 318, 3) := dk_182 1 62 (dk_at dksX7_commute_0 1 rfl rfl)
theorem dX7_commute_4 : decode cX7_commute 4 = .ok (.ifCond .eq 19, 3) := dk_153 0 19 (dk_at dksX7_commute_0 4 rfl rfl)
theorem dX7_commute_7 : decode cX7_commute 7 = .ok (.aload_n 0, 1) := dk_42 (dk_at dksX7_commute_0 7 rfl rfl)
theorem dX7_commute_8 : decode cX7_commute 8 = .ok (.iload_n 1, 1) := dk_27 (dk_at dksX7_commute_0 8 rfl rfl)
theorem dX7_commute_9 : decode cX7_commute 9 = .ok (.invokevirtual 267, 3) := dk_182 1 11 (dk_at dksX7_commute_0 9 rfl rfl)
theorem dX7_commute_12 : decode cX7_commute 12 = .ok (.ifCond .eq 11, 3) := dk_153 0 11 (dk_at dksX7_commute_0 12 rfl rfl)
theorem dX7_commute_15 : decode cX7_commute 15 = .ok (.aload_n 0, 1) := dk_42 (dk_at dksX7_commute_0 15 rfl rfl)
theorem dX7_commute_16 : decode cX7_commute 16 = .ok (.iload_n 2, 1) := dk_28 (dk_at dksX7_commute_0 16 rfl rfl)
theorem dX7_commute_17 : decode cX7_commute 17 = .ok (.invokevirtual 267, 3) := dk_182 1 11 (dk_at dksX7_commute_0 17 rfl rfl)
theorem dX7_commute_20 : decode cX7_commute 20 = .ok (.ifCond .ne 6, 3) := dk_154 0 6 (dk_at dksX7_commute_0 20 rfl rfl)
theorem dX7_commute_23 : decode cX7_commute 23 = .ok (.bipush (-2), 2) := dk_16 254 (dk_at dksX7_commute_1 0 rfl rfl)
theorem dX7_commute_25 : decode cX7_commute 25 = .ok (.ireturn, 1) := dk_172 (dk_at dksX7_commute_1 2 rfl rfl)
theorem dX7_commute_26 : decode cX7_commute 26 = .ok (.aload_n 0, 1) := dk_42 (dk_at dksX7_commute_1 3 rfl rfl)
theorem dX7_commute_27 : decode cX7_commute 27 = .ok (.iload_n 1, 1) := dk_27 (dk_at dksX7_commute_1 4 rfl rfl)
theorem dX7_commute_28 : decode cX7_commute 28 = .ok (.iload_n 2, 1) := dk_28 (dk_at dksX7_commute_1 5 rfl rfl)
theorem dX7_commute_29 : decode cX7_commute 29 = .ok (.invokevirtual 334, 3) := dk_182 1 78 (dk_at dksX7_commute_1 6 rfl rfl)
theorem dX7_commute_32 : decode cX7_commute 32 = .ok (.ifCond .eq 7, 3) := dk_153 0 7 (dk_at dksX7_commute_1 9 rfl rfl)
theorem dX7_commute_35 : decode cX7_commute 35 = .ok (.iconst 1, 1) := dk_4 (dk_at dksX7_commute_1 12 rfl rfl)
theorem dX7_commute_36 : decode cX7_commute 36 = .ok (.goto 4, 3) := dk_167 0 4 (dk_at dksX7_commute_1 13 rfl rfl)
theorem dX7_commute_39 : decode cX7_commute 39 = .ok (.iconst 0, 1) := dk_3 (dk_at dksX7_commute_1 16 rfl rfl)
theorem dX7_commute_40 : decode cX7_commute 40 = .ok (.ireturn, 1) := dk_172 (dk_at dksX7_commute_1 17 rfl rfl)
abbrev cX7_areCommuting : ByteArray := prog_22_method_80_code
def yX7_areCommuting : MethodName := ⟨RX7, "areCommuting", "(II)Z"⟩
def dkwX7_areCommuting_4 : List UInt8 := [132, 4, 1, 167, 255, 163, 29, 172]
abbrev dktX7_areCommuting_4 : List UInt8 := dkwX7_areCommuting_4 ++ []
def dkwX7_areCommuting_3 : List UInt8 := [42, 28, 21, 5, 182, 1, 69, 42, 27, 21, 6, 182, 1, 69, 160, 0, 7, 4, 167, 0, 4, 3, 62]
abbrev dktX7_areCommuting_3 : List UInt8 := dkwX7_areCommuting_3 ++ dktX7_areCommuting_4
def dkwX7_areCommuting_2 : List UInt8 := [21, 6, 2, 160, 0, 6, 167, 0, 41, 29, 153, 0, 35, 42, 28, 21, 5, 182, 1, 69, 2, 159, 0, 24]
abbrev dktX7_areCommuting_2 : List UInt8 := dkwX7_areCommuting_2 ++ dktX7_areCommuting_3
def dkwX7_areCommuting_1 : List UInt8 := [28, 21, 4, 182, 1, 69, 54, 6, 42, 180, 0, 37, 21, 4, 51, 153, 0, 56, 21, 5, 2, 159, 0, 50]
abbrev dktX7_areCommuting_1 : List UInt8 := dkwX7_areCommuting_1 ++ dktX7_areCommuting_2
def dkwX7_areCommuting_0 : List UInt8 := [4, 62, 3, 54, 4, 21, 4, 42, 182, 0, 96, 162, 0, 90, 42, 27, 21, 4, 182, 1, 69, 54, 5, 42]
abbrev dktX7_areCommuting_0 : List UInt8 := dkwX7_areCommuting_0 ++ dktX7_areCommuting_1
theorem dksX7_areCommuting_0 : cX7_areCommuting.data.toList.drop 0 = dktX7_areCommuting_0 := by decide +kernel
theorem dksX7_areCommuting_1 : cX7_areCommuting.data.toList.drop 24 = dktX7_areCommuting_1 := dk_seg dksX7_areCommuting_0 24 rfl rfl
theorem dksX7_areCommuting_2 : cX7_areCommuting.data.toList.drop 48 = dktX7_areCommuting_2 := dk_seg dksX7_areCommuting_1 24 rfl rfl
theorem dksX7_areCommuting_3 : cX7_areCommuting.data.toList.drop 72 = dktX7_areCommuting_3 := dk_seg dksX7_areCommuting_2 24 rfl rfl
theorem dksX7_areCommuting_4 : cX7_areCommuting.data.toList.drop 95 = dktX7_areCommuting_4 := dk_seg dksX7_areCommuting_3 23 rfl rfl
theorem dX7_areCommuting_0 : decode cX7_areCommuting 0 = .ok (.iconst 1, 1) := dk_4 (dk_at dksX7_areCommuting_0 0 rfl rfl)
theorem dX7_areCommuting_1 : decode cX7_areCommuting 1 = .ok (.istore_n 3, 1) := dk_62 (dk_at dksX7_areCommuting_0 1 rfl rfl)
theorem dX7_areCommuting_2 : decode cX7_areCommuting 2 = .ok (.iconst 0, 1) := dk_3 (dk_at dksX7_areCommuting_0 2 rfl rfl)
theorem dX7_areCommuting_3 : decode cX7_areCommuting 3 = .ok (.istore 4, 2) := dk_54 4 (dk_at dksX7_areCommuting_0 3 rfl rfl)
theorem dX7_areCommuting_5 : decode cX7_areCommuting 5 = .ok (.iload 4, 2) := dk_21 4 (dk_at dksX7_areCommuting_0 5 rfl rfl)
theorem dX7_areCommuting_7 : decode cX7_areCommuting 7 = .ok (.aload_n 0, 1) := dk_42 (dk_at dksX7_areCommuting_0 7 rfl rfl)
theorem dX7_areCommuting_8 : decode cX7_areCommuting 8 = .ok (.invokevirtual 96, 3) := dk_182 0 96 (dk_at dksX7_areCommuting_0 8 rfl rfl)
theorem dX7_areCommuting_11 : decode cX7_areCommuting 11 = .ok (.if_icmp .ge 90, 3) := dk_162 0 90 (dk_at dksX7_areCommuting_0 11 rfl rfl)
theorem dX7_areCommuting_14 : decode cX7_areCommuting 14 = .ok (.aload_n 0, 1) := dk_42 (dk_at dksX7_areCommuting_0 14 rfl rfl)
theorem dX7_areCommuting_15 : decode cX7_areCommuting 15 = .ok (.iload_n 1, 1) := dk_27 (dk_at dksX7_areCommuting_0 15 rfl rfl)
theorem dX7_areCommuting_16 : decode cX7_areCommuting 16 = .ok (.iload 4, 2) := dk_21 4 (dk_at dksX7_areCommuting_0 16 rfl rfl)
theorem dX7_areCommuting_18 : decode cX7_areCommuting 18 = .ok (.invokevirtual 325, 3) := dk_182 1 69 (dk_at dksX7_areCommuting_0 18 rfl rfl)
theorem dX7_areCommuting_21 : decode cX7_areCommuting 21 = .ok (.istore 5, 2) := dk_54 5 (dk_at dksX7_areCommuting_0 21 rfl rfl)
theorem dX7_areCommuting_23 : decode cX7_areCommuting 23 = .ok (.aload_n 0, 1) := dk_42 (dk_at dksX7_areCommuting_0 23 rfl rfl)
theorem dX7_areCommuting_24 : decode cX7_areCommuting 24 = .ok (.iload_n 2, 1) := dk_28 (dk_at dksX7_areCommuting_1 0 rfl rfl)
theorem dX7_areCommuting_25 : decode cX7_areCommuting 25 = .ok (.iload 4, 2) := dk_21 4 (dk_at dksX7_areCommuting_1 1 rfl rfl)
theorem dX7_areCommuting_27 : decode cX7_areCommuting 27 = .ok (.invokevirtual 325, 3) := dk_182 1 69 (dk_at dksX7_areCommuting_1 3 rfl rfl)
theorem dX7_areCommuting_30 : decode cX7_areCommuting 30 = .ok (.istore 6, 2) := dk_54 6 (dk_at dksX7_areCommuting_1 6 rfl rfl)
theorem dX7_areCommuting_32 : decode cX7_areCommuting 32 = .ok (.aload_n 0, 1) := dk_42 (dk_at dksX7_areCommuting_1 8 rfl rfl)
theorem dX7_areCommuting_33 : decode cX7_areCommuting 33 = .ok (.getfield 37, 3) := dk_180 0 37 (dk_at dksX7_areCommuting_1 9 rfl rfl)
theorem dX7_areCommuting_36 : decode cX7_areCommuting 36 = .ok (.iload 4, 2) := dk_21 4 (dk_at dksX7_areCommuting_1 12 rfl rfl)
theorem dX7_areCommuting_38 : decode cX7_areCommuting 38 = .ok (.baload, 1) := dk_51 (dk_at dksX7_areCommuting_1 14 rfl rfl)
theorem dX7_areCommuting_39 : decode cX7_areCommuting 39 = .ok (.ifCond .eq 56, 3) := dk_153 0 56 (dk_at dksX7_areCommuting_1 15 rfl rfl)
theorem dX7_areCommuting_42 : decode cX7_areCommuting 42 = .ok (.iload 5, 2) := dk_21 5 (dk_at dksX7_areCommuting_1 18 rfl rfl)
theorem dX7_areCommuting_44 : decode cX7_areCommuting 44 = .ok (.iconst (-1), 1) := dk_2 (dk_at dksX7_areCommuting_1 20 rfl rfl)
theorem dX7_areCommuting_45 : decode cX7_areCommuting 45 = .ok (.if_icmp .eq 50, 3) := dk_159 0 50 (dk_at dksX7_areCommuting_1 21 rfl rfl)
theorem dX7_areCommuting_48 : decode cX7_areCommuting 48 = .ok (.iload 6, 2) := dk_21 6 (dk_at dksX7_areCommuting_2 0 rfl rfl)
theorem dX7_areCommuting_50 : decode cX7_areCommuting 50 = .ok (.iconst (-1), 1) := dk_2 (dk_at dksX7_areCommuting_2 2 rfl rfl)
theorem dX7_areCommuting_51 : decode cX7_areCommuting 51 = .ok (.if_icmp .ne 6, 3) := dk_160 0 6 (dk_at dksX7_areCommuting_2 3 rfl rfl)
theorem dX7_areCommuting_54 : decode cX7_areCommuting 54 = .ok (.goto 41, 3) := dk_167 0 41 (dk_at dksX7_areCommuting_2 6 rfl rfl)
theorem dX7_areCommuting_57 : decode cX7_areCommuting 57 = .ok (.iload_n 3, 1) := dk_29 (dk_at dksX7_areCommuting_2 9 rfl rfl)
theorem dX7_areCommuting_58 : decode cX7_areCommuting 58 = .ok (.ifCond .eq 35, 3) := dk_153 0 35 (dk_at dksX7_areCommuting_2 10 rfl rfl)
theorem dX7_areCommuting_61 : decode cX7_areCommuting 61 = .ok (.aload_n 0, 1) := dk_42 (dk_at dksX7_areCommuting_2 13 rfl rfl)
theorem dX7_areCommuting_62 : decode cX7_areCommuting 62 = .ok (.iload_n 2, 1) := dk_28 (dk_at dksX7_areCommuting_2 14 rfl rfl)
theorem dX7_areCommuting_63 : decode cX7_areCommuting 63 = .ok (.iload 5, 2) := dk_21 5 (dk_at dksX7_areCommuting_2 15 rfl rfl)
theorem dX7_areCommuting_65 : decode cX7_areCommuting 65 = .ok (.invokevirtual 325, 3) := dk_182 1 69 (dk_at dksX7_areCommuting_2 17 rfl rfl)
theorem dX7_areCommuting_68 : decode cX7_areCommuting 68 = .ok (.iconst (-1), 1) := dk_2 (dk_at dksX7_areCommuting_2 20 rfl rfl)
theorem dX7_areCommuting_69 : decode cX7_areCommuting 69 = .ok (.if_icmp .eq 24, 3) := dk_159 0 24 (dk_at dksX7_areCommuting_2 21 rfl rfl)
theorem dX7_areCommuting_72 : decode cX7_areCommuting 72 = .ok (.aload_n 0, 1) := dk_42 (dk_at dksX7_areCommuting_3 0 rfl rfl)
theorem dX7_areCommuting_73 : decode cX7_areCommuting 73 = .ok (.iload_n 2, 1) := dk_28 (dk_at dksX7_areCommuting_3 1 rfl rfl)
theorem dX7_areCommuting_74 : decode cX7_areCommuting 74 = .ok (.iload 5, 2) := dk_21 5 (dk_at dksX7_areCommuting_3 2 rfl rfl)
theorem dX7_areCommuting_76 : decode cX7_areCommuting 76 = .ok (.invokevirtual 325, 3) := dk_182 1 69 (dk_at dksX7_areCommuting_3 4 rfl rfl)
theorem dX7_areCommuting_79 : decode cX7_areCommuting 79 = .ok (.aload_n 0, 1) := dk_42 (dk_at dksX7_areCommuting_3 7 rfl rfl)
theorem dX7_areCommuting_80 : decode cX7_areCommuting 80 = .ok (.iload_n 1, 1) := dk_27 (dk_at dksX7_areCommuting_3 8 rfl rfl)
theorem dX7_areCommuting_81 : decode cX7_areCommuting 81 = .ok (.iload 6, 2) := dk_21 6 (dk_at dksX7_areCommuting_3 9 rfl rfl)
theorem dX7_areCommuting_83 : decode cX7_areCommuting 83 = .ok (.invokevirtual 325, 3) := dk_182 1 69 (dk_at dksX7_areCommuting_3 11 rfl rfl)
theorem dX7_areCommuting_86 : decode cX7_areCommuting 86 = .ok (.if_icmp .ne 7, 3) := dk_160 0 7 (dk_at dksX7_areCommuting_3 14 rfl rfl)
theorem dX7_areCommuting_89 : decode cX7_areCommuting 89 = .ok (.iconst 1, 1) := dk_4 (dk_at dksX7_areCommuting_3 17 rfl rfl)
theorem dX7_areCommuting_90 : decode cX7_areCommuting 90 = .ok (.goto 4, 3) := dk_167 0 4 (dk_at dksX7_areCommuting_3 18 rfl rfl)
theorem dX7_areCommuting_93 : decode cX7_areCommuting 93 = .ok (.iconst 0, 1) := dk_3 (dk_at dksX7_areCommuting_3 21 rfl rfl)
theorem dX7_areCommuting_94 : decode cX7_areCommuting 94 = .ok (.istore_n 3, 1) := dk_62 (dk_at dksX7_areCommuting_3 22 rfl rfl)
theorem dX7_areCommuting_95 : decode cX7_areCommuting 95 = .ok (.iinc 4 1, 3) := dk_132 4 1 (dk_at dksX7_areCommuting_4 0 rfl rfl)
theorem dX7_areCommuting_98 : decode cX7_areCommuting 98 = .ok (.goto (-93), 3) := dk_167 255 163 (dk_at dksX7_areCommuting_4 3 rfl rfl)
theorem dX7_areCommuting_101 : decode cX7_areCommuting 101 = .ok (.iload_n 3, 1) := dk_29 (dk_at dksX7_areCommuting_4 6 rfl rfl)
theorem dX7_areCommuting_102 : decode cX7_areCommuting 102 = .ok (.ireturn, 1) := dk_172 (dk_at dksX7_areCommuting_4 7 rfl rfl)
abbrev cX7_table : ByteArray := prog_22_method_82_code
def yX7_table : MethodName := ⟨RX7, "table", "()I"⟩
def dkwX7_table_2 : List UInt8 := [3, 96, 60, 132, 3, 1, 167, 255, 228, 132, 2, 1, 167, 255, 210, 27, 172]
abbrev dktX7_table_2 : List UInt8 := dkwX7_table_2 ++ []
def dkwX7_table_1 : List UInt8 := [96, 62, 29, 42, 182, 0, 84, 162, 0, 26, 27, 42, 28, 29, 182, 1, 78, 153, 0, 7, 4, 167, 0, 4]
abbrev dktX7_table_1 : List UInt8 := dkwX7_table_1 ++ dktX7_table_2
def dkwX7_table_0 : List UInt8 := [42, 182, 1, 62, 154, 0, 6, 16, 254, 172, 3, 60, 3, 61, 28, 42, 182, 0, 84, 162, 0, 44, 28, 4]
abbrev dktX7_table_0 : List UInt8 := dkwX7_table_0 ++ dktX7_table_1
theorem dksX7_table_0 : cX7_table.data.toList.drop 0 = dktX7_table_0 := by decide +kernel
theorem dksX7_table_1 : cX7_table.data.toList.drop 24 = dktX7_table_1 := dk_seg dksX7_table_0 24 rfl rfl
theorem dksX7_table_2 : cX7_table.data.toList.drop 48 = dktX7_table_2 := dk_seg dksX7_table_1 24 rfl rfl
theorem dX7_table_0 : decode cX7_table 0 = .ok (.aload_n 0, 1) := dk_42 (dk_at dksX7_table_0 0 rfl rfl)
theorem dX7_table_1 : decode cX7_table 1 = .ok (.invokevirtual 318, 3) := dk_182 1 62 (dk_at dksX7_table_0 1 rfl rfl)
theorem dX7_table_4 : decode cX7_table 4 = .ok (.ifCond .ne 6, 3) := dk_154 0 6 (dk_at dksX7_table_0 4 rfl rfl)
theorem dX7_table_7 : decode cX7_table 7 = .ok (.bipush (-2), 2) := dk_16 254 (dk_at dksX7_table_0 7 rfl rfl)
theorem dX7_table_9 : decode cX7_table 9 = .ok (.ireturn, 1) := dk_172 (dk_at dksX7_table_0 9 rfl rfl)
theorem dX7_table_10 : decode cX7_table 10 = .ok (.iconst 0, 1) := dk_3 (dk_at dksX7_table_0 10 rfl rfl)
theorem dX7_table_11 : decode cX7_table 11 = .ok (.istore_n 1, 1) := dk_60 (dk_at dksX7_table_0 11 rfl rfl)
theorem dX7_table_12 : decode cX7_table 12 = .ok (.iconst 0, 1) := dk_3 (dk_at dksX7_table_0 12 rfl rfl)
theorem dX7_table_13 : decode cX7_table 13 = .ok (.istore_n 2, 1) := dk_61 (dk_at dksX7_table_0 13 rfl rfl)
theorem dX7_table_14 : decode cX7_table 14 = .ok (.iload_n 2, 1) := dk_28 (dk_at dksX7_table_0 14 rfl rfl)
theorem dX7_table_15 : decode cX7_table 15 = .ok (.aload_n 0, 1) := dk_42 (dk_at dksX7_table_0 15 rfl rfl)
theorem dX7_table_16 : decode cX7_table 16 = .ok (.invokevirtual 84, 3) := dk_182 0 84 (dk_at dksX7_table_0 16 rfl rfl)
theorem dX7_table_19 : decode cX7_table 19 = .ok (.if_icmp .ge 44, 3) := dk_162 0 44 (dk_at dksX7_table_0 19 rfl rfl)
theorem dX7_table_22 : decode cX7_table 22 = .ok (.iload_n 2, 1) := dk_28 (dk_at dksX7_table_0 22 rfl rfl)
theorem dX7_table_23 : decode cX7_table 23 = .ok (.iconst 1, 1) := dk_4 (dk_at dksX7_table_0 23 rfl rfl)
theorem dX7_table_24 : decode cX7_table 24 = .ok (.iadd, 1) := dk_96 (dk_at dksX7_table_1 0 rfl rfl)
theorem dX7_table_25 : decode cX7_table 25 = .ok (.istore_n 3, 1) := dk_62 (dk_at dksX7_table_1 1 rfl rfl)
theorem dX7_table_26 : decode cX7_table 26 = .ok (.iload_n 3, 1) := dk_29 (dk_at dksX7_table_1 2 rfl rfl)
theorem dX7_table_27 : decode cX7_table 27 = .ok (.aload_n 0, 1) := dk_42 (dk_at dksX7_table_1 3 rfl rfl)
theorem dX7_table_28 : decode cX7_table 28 = .ok (.invokevirtual 84, 3) := dk_182 0 84 (dk_at dksX7_table_1 4 rfl rfl)
theorem dX7_table_31 : decode cX7_table 31 = .ok (.if_icmp .ge 26, 3) := dk_162 0 26 (dk_at dksX7_table_1 7 rfl rfl)
theorem dX7_table_34 : decode cX7_table 34 = .ok (.iload_n 1, 1) := dk_27 (dk_at dksX7_table_1 10 rfl rfl)
theorem dX7_table_35 : decode cX7_table 35 = .ok (.aload_n 0, 1) := dk_42 (dk_at dksX7_table_1 11 rfl rfl)
theorem dX7_table_36 : decode cX7_table 36 = .ok (.iload_n 2, 1) := dk_28 (dk_at dksX7_table_1 12 rfl rfl)
theorem dX7_table_37 : decode cX7_table 37 = .ok (.iload_n 3, 1) := dk_29 (dk_at dksX7_table_1 13 rfl rfl)
theorem dX7_table_38 : decode cX7_table 38 = .ok (.invokevirtual 334, 3) := dk_182 1 78 (dk_at dksX7_table_1 14 rfl rfl)
theorem dX7_table_41 : decode cX7_table 41 = .ok (.ifCond .eq 7, 3) := dk_153 0 7 (dk_at dksX7_table_1 17 rfl rfl)
theorem dX7_table_44 : decode cX7_table 44 = .ok (.iconst 1, 1) := dk_4 (dk_at dksX7_table_1 20 rfl rfl)
theorem dX7_table_45 : decode cX7_table 45 = .ok (.goto 4, 3) := dk_167 0 4 (dk_at dksX7_table_1 21 rfl rfl)
theorem dX7_table_48 : decode cX7_table 48 = .ok (.iconst 0, 1) := dk_3 (dk_at dksX7_table_2 0 rfl rfl)
theorem dX7_table_49 : decode cX7_table 49 = .ok (.iadd, 1) := dk_96 (dk_at dksX7_table_2 1 rfl rfl)
theorem dX7_table_50 : decode cX7_table 50 = .ok (.istore_n 1, 1) := dk_60 (dk_at dksX7_table_2 2 rfl rfl)
theorem dX7_table_51 : decode cX7_table 51 = .ok (.iinc 3 1, 3) := dk_132 3 1 (dk_at dksX7_table_2 3 rfl rfl)
theorem dX7_table_54 : decode cX7_table 54 = .ok (.goto (-28), 3) := dk_167 255 228 (dk_at dksX7_table_2 6 rfl rfl)
theorem dX7_table_57 : decode cX7_table 57 = .ok (.iinc 2 1, 3) := dk_132 2 1 (dk_at dksX7_table_2 9 rfl rfl)
theorem dX7_table_60 : decode cX7_table 60 = .ok (.goto (-46), 3) := dk_167 255 210 (dk_at dksX7_table_2 12 rfl rfl)
theorem dX7_table_63 : decode cX7_table 63 = .ok (.iload_n 1, 1) := dk_27 (dk_at dksX7_table_2 15 rfl rfl)
theorem dX7_table_64 : decode cX7_table 64 = .ok (.ireturn, 1) := dk_172 (dk_at dksX7_table_2 16 rfl rfl)
abbrev cX7_merge : ByteArray := prog_22_method_86_code
def yX7_merge : MethodName := ⟨RX7, "merge", "(III)I"⟩
def dkwX7_merge_2 : List UInt8 := [172]
abbrev dktX7_merge_2 : List UInt8 := dkwX7_merge_2 ++ []
def dkwX7_merge_1 : List UInt8 := [153, 0, 22, 42, 29, 133, 182, 1, 58, 153, 0, 13, 42, 27, 28, 29, 182, 1, 88, 167, 0, 5, 16, 254]
abbrev dktX7_merge_1 : List UInt8 := dkwX7_merge_1 ++ dktX7_merge_2
def dkwX7_merge_0 : List UInt8 := [42, 182, 1, 62, 153, 0, 40, 42, 27, 133, 182, 1, 58, 153, 0, 31, 42, 28, 133, 182, 1, 58]
abbrev dktX7_merge_0 : List UInt8 := dkwX7_merge_0 ++ dktX7_merge_1
theorem dksX7_merge_0 : cX7_merge.data.toList.drop 0 = dktX7_merge_0 := by decide +kernel
theorem dksX7_merge_1 : cX7_merge.data.toList.drop 22 = dktX7_merge_1 := dk_seg dksX7_merge_0 22 rfl rfl
theorem dksX7_merge_2 : cX7_merge.data.toList.drop 46 = dktX7_merge_2 := dk_seg dksX7_merge_1 24 rfl rfl
theorem dX7_merge_0 : decode cX7_merge 0 = .ok (.aload_n 0, 1) := dk_42 (dk_at dksX7_merge_0 0 rfl rfl)
theorem dX7_merge_1 : decode cX7_merge 1 = .ok (.invokevirtual 318, 3) := dk_182 1 62 (dk_at dksX7_merge_0 1 rfl rfl)
theorem dX7_merge_4 : decode cX7_merge 4 = .ok (.ifCond .eq 40, 3) := dk_153 0 40 (dk_at dksX7_merge_0 4 rfl rfl)
theorem dX7_merge_7 : decode cX7_merge 7 = .ok (.aload_n 0, 1) := dk_42 (dk_at dksX7_merge_0 7 rfl rfl)
theorem dX7_merge_8 : decode cX7_merge 8 = .ok (.iload_n 1, 1) := dk_27 (dk_at dksX7_merge_0 8 rfl rfl)
theorem dX7_merge_9 : decode cX7_merge 9 = .ok (.i2l, 1) := dk_133 (dk_at dksX7_merge_0 9 rfl rfl)
theorem dX7_merge_10 : decode cX7_merge 10 = .ok (.invokevirtual 314, 3) := dk_182 1 58 (dk_at dksX7_merge_0 10 rfl rfl)
theorem dX7_merge_13 : decode cX7_merge 13 = .ok (.ifCond .eq 31, 3) := dk_153 0 31 (dk_at dksX7_merge_0 13 rfl rfl)
theorem dX7_merge_16 : decode cX7_merge 16 = .ok (.aload_n 0, 1) := dk_42 (dk_at dksX7_merge_0 16 rfl rfl)
theorem dX7_merge_17 : decode cX7_merge 17 = .ok (.iload_n 2, 1) := dk_28 (dk_at dksX7_merge_0 17 rfl rfl)
theorem dX7_merge_18 : decode cX7_merge 18 = .ok (.i2l, 1) := dk_133 (dk_at dksX7_merge_0 18 rfl rfl)
theorem dX7_merge_19 : decode cX7_merge 19 = .ok (.invokevirtual 314, 3) := dk_182 1 58 (dk_at dksX7_merge_0 19 rfl rfl)
theorem dX7_merge_22 : decode cX7_merge 22 = .ok (.ifCond .eq 22, 3) := dk_153 0 22 (dk_at dksX7_merge_1 0 rfl rfl)
theorem dX7_merge_25 : decode cX7_merge 25 = .ok (.aload_n 0, 1) := dk_42 (dk_at dksX7_merge_1 3 rfl rfl)
theorem dX7_merge_26 : decode cX7_merge 26 = .ok (.iload_n 3, 1) := dk_29 (dk_at dksX7_merge_1 4 rfl rfl)
theorem dX7_merge_27 : decode cX7_merge 27 = .ok (.i2l, 1) := dk_133 (dk_at dksX7_merge_1 5 rfl rfl)
theorem dX7_merge_28 : decode cX7_merge 28 = .ok (.invokevirtual 314, 3) := dk_182 1 58 (dk_at dksX7_merge_1 6 rfl rfl)
theorem dX7_merge_31 : decode cX7_merge 31 = .ok (.ifCond .eq 13, 3) := dk_153 0 13 (dk_at dksX7_merge_1 9 rfl rfl)
theorem dX7_merge_34 : decode cX7_merge 34 = .ok (.aload_n 0, 1) := dk_42 (dk_at dksX7_merge_1 12 rfl rfl)
theorem dX7_merge_35 : decode cX7_merge 35 = .ok (.iload_n 1, 1) := dk_27 (dk_at dksX7_merge_1 13 rfl rfl)
theorem dX7_merge_36 : decode cX7_merge 36 = .ok (.iload_n 2, 1) := dk_28 (dk_at dksX7_merge_1 14 rfl rfl)
theorem dX7_merge_37 : decode cX7_merge 37 = .ok (.iload_n 3, 1) := dk_29 (dk_at dksX7_merge_1 15 rfl rfl)
theorem dX7_merge_38 : decode cX7_merge 38 = .ok (.invokevirtual 344, 3) := dk_182 1 88 (dk_at dksX7_merge_1 16 rfl rfl)
theorem dX7_merge_41 : decode cX7_merge 41 = .ok (.goto 5, 3) := dk_167 0 5 (dk_at dksX7_merge_1 19 rfl rfl)
theorem dX7_merge_44 : decode cX7_merge 44 = .ok (.bipush (-2), 2) := dk_16 254 (dk_at dksX7_merge_1 22 rfl rfl)
theorem dX7_merge_46 : decode cX7_merge 46 = .ok (.ireturn, 1) := dk_172 (dk_at dksX7_merge_2 0 rfl rfl)
abbrev cX7_mergeOf : ByteArray := prog_22_method_85_code
def yX7_mergeOf : MethodName := ⟨RX7, "mergeOf", "(III)I"⟩
def dkwX7_mergeOf_2 : List UInt8 := [182, 1, 29, 182, 1, 84, 182, 1, 39, 54, 4, 132, 5, 1, 167, 255, 202, 21, 4, 172]
abbrev dktX7_mergeOf_2 : List UInt8 := dkwX7_mergeOf_2 ++ []
def dkwX7_mergeOf_1 : List UInt8 := [180, 0, 34, 21, 5, 46, 42, 27, 21, 5, 182, 1, 29, 42, 28, 21, 5, 182, 1, 29, 42, 29, 21, 5]
abbrev dktX7_mergeOf_1 : List UInt8 := dkwX7_mergeOf_1 ++ dktX7_mergeOf_2
def dkwX7_mergeOf_0 : List UInt8 := [3, 54, 4, 3, 54, 5, 21, 5, 42, 182, 0, 87, 162, 0, 51, 42, 21, 4, 21, 5, 42, 42]
abbrev dktX7_mergeOf_0 : List UInt8 := dkwX7_mergeOf_0 ++ dktX7_mergeOf_1
theorem dksX7_mergeOf_0 : cX7_mergeOf.data.toList.drop 0 = dktX7_mergeOf_0 := by decide +kernel
theorem dksX7_mergeOf_1 : cX7_mergeOf.data.toList.drop 22 = dktX7_mergeOf_1 := dk_seg dksX7_mergeOf_0 22 rfl rfl
theorem dksX7_mergeOf_2 : cX7_mergeOf.data.toList.drop 46 = dktX7_mergeOf_2 := dk_seg dksX7_mergeOf_1 24 rfl rfl
theorem dX7_mergeOf_0 : decode cX7_mergeOf 0 = .ok (.iconst 0, 1) := dk_3 (dk_at dksX7_mergeOf_0 0 rfl rfl)
theorem dX7_mergeOf_1 : decode cX7_mergeOf 1 = .ok (.istore 4, 2) := dk_54 4 (dk_at dksX7_mergeOf_0 1 rfl rfl)
theorem dX7_mergeOf_3 : decode cX7_mergeOf 3 = .ok (.iconst 0, 1) := dk_3 (dk_at dksX7_mergeOf_0 3 rfl rfl)
theorem dX7_mergeOf_4 : decode cX7_mergeOf 4 = .ok (.istore 5, 2) := dk_54 5 (dk_at dksX7_mergeOf_0 4 rfl rfl)
theorem dX7_mergeOf_6 : decode cX7_mergeOf 6 = .ok (.iload 5, 2) := dk_21 5 (dk_at dksX7_mergeOf_0 6 rfl rfl)
theorem dX7_mergeOf_8 : decode cX7_mergeOf 8 = .ok (.aload_n 0, 1) := dk_42 (dk_at dksX7_mergeOf_0 8 rfl rfl)
theorem dX7_mergeOf_9 : decode cX7_mergeOf 9 = .ok (.invokevirtual 87, 3) := dk_182 0 87 (dk_at dksX7_mergeOf_0 9 rfl rfl)
theorem dX7_mergeOf_12 : decode cX7_mergeOf 12 = .ok (.if_icmp .ge 51, 3) := dk_162 0 51 (dk_at dksX7_mergeOf_0 12 rfl rfl)
theorem dX7_mergeOf_15 : decode cX7_mergeOf 15 = .ok (.aload_n 0, 1) := dk_42 (dk_at dksX7_mergeOf_0 15 rfl rfl)
theorem dX7_mergeOf_16 : decode cX7_mergeOf 16 = .ok (.iload 4, 2) := dk_21 4 (dk_at dksX7_mergeOf_0 16 rfl rfl)
theorem dX7_mergeOf_18 : decode cX7_mergeOf 18 = .ok (.iload 5, 2) := dk_21 5 (dk_at dksX7_mergeOf_0 18 rfl rfl)
theorem dX7_mergeOf_20 : decode cX7_mergeOf 20 = .ok (.aload_n 0, 1) := dk_42 (dk_at dksX7_mergeOf_0 20 rfl rfl)
theorem dX7_mergeOf_21 : decode cX7_mergeOf 21 = .ok (.aload_n 0, 1) := dk_42 (dk_at dksX7_mergeOf_0 21 rfl rfl)
theorem dX7_mergeOf_22 : decode cX7_mergeOf 22 = .ok (.getfield 34, 3) := dk_180 0 34 (dk_at dksX7_mergeOf_1 0 rfl rfl)
theorem dX7_mergeOf_25 : decode cX7_mergeOf 25 = .ok (.iload 5, 2) := dk_21 5 (dk_at dksX7_mergeOf_1 3 rfl rfl)
theorem dX7_mergeOf_27 : decode cX7_mergeOf 27 = .ok (.iaload, 1) := dk_46 (dk_at dksX7_mergeOf_1 5 rfl rfl)
theorem dX7_mergeOf_28 : decode cX7_mergeOf 28 = .ok (.aload_n 0, 1) := dk_42 (dk_at dksX7_mergeOf_1 6 rfl rfl)
theorem dX7_mergeOf_29 : decode cX7_mergeOf 29 = .ok (.iload_n 1, 1) := dk_27 (dk_at dksX7_mergeOf_1 7 rfl rfl)
theorem dX7_mergeOf_30 : decode cX7_mergeOf 30 = .ok (.iload 5, 2) := dk_21 5 (dk_at dksX7_mergeOf_1 8 rfl rfl)
theorem dX7_mergeOf_32 : decode cX7_mergeOf 32 = .ok (.invokevirtual 285, 3) := dk_182 1 29 (dk_at dksX7_mergeOf_1 10 rfl rfl)
theorem dX7_mergeOf_35 : decode cX7_mergeOf 35 = .ok (.aload_n 0, 1) := dk_42 (dk_at dksX7_mergeOf_1 13 rfl rfl)
theorem dX7_mergeOf_36 : decode cX7_mergeOf 36 = .ok (.iload_n 2, 1) := dk_28 (dk_at dksX7_mergeOf_1 14 rfl rfl)
theorem dX7_mergeOf_37 : decode cX7_mergeOf 37 = .ok (.iload 5, 2) := dk_21 5 (dk_at dksX7_mergeOf_1 15 rfl rfl)
theorem dX7_mergeOf_39 : decode cX7_mergeOf 39 = .ok (.invokevirtual 285, 3) := dk_182 1 29 (dk_at dksX7_mergeOf_1 17 rfl rfl)
theorem dX7_mergeOf_42 : decode cX7_mergeOf 42 = .ok (.aload_n 0, 1) := dk_42 (dk_at dksX7_mergeOf_1 20 rfl rfl)
theorem dX7_mergeOf_43 : decode cX7_mergeOf 43 = .ok (.iload_n 3, 1) := dk_29 (dk_at dksX7_mergeOf_1 21 rfl rfl)
theorem dX7_mergeOf_44 : decode cX7_mergeOf 44 = .ok (.iload 5, 2) := dk_21 5 (dk_at dksX7_mergeOf_1 22 rfl rfl)
theorem dX7_mergeOf_46 : decode cX7_mergeOf 46 = .ok (.invokevirtual 285, 3) := dk_182 1 29 (dk_at dksX7_mergeOf_2 0 rfl rfl)
theorem dX7_mergeOf_49 : decode cX7_mergeOf 49 = .ok (.invokevirtual 340, 3) := dk_182 1 84 (dk_at dksX7_mergeOf_2 3 rfl rfl)
theorem dX7_mergeOf_52 : decode cX7_mergeOf 52 = .ok (.invokevirtual 295, 3) := dk_182 1 39 (dk_at dksX7_mergeOf_2 6 rfl rfl)
theorem dX7_mergeOf_55 : decode cX7_mergeOf 55 = .ok (.istore 4, 2) := dk_54 4 (dk_at dksX7_mergeOf_2 9 rfl rfl)
theorem dX7_mergeOf_57 : decode cX7_mergeOf 57 = .ok (.iinc 5 1, 3) := dk_132 5 1 (dk_at dksX7_mergeOf_2 11 rfl rfl)
theorem dX7_mergeOf_60 : decode cX7_mergeOf 60 = .ok (.goto (-54), 3) := dk_167 255 202 (dk_at dksX7_mergeOf_2 14 rfl rfl)
theorem dX7_mergeOf_63 : decode cX7_mergeOf 63 = .ok (.iload 4, 2) := dk_21 4 (dk_at dksX7_mergeOf_2 17 rfl rfl)
theorem dX7_mergeOf_65 : decode cX7_mergeOf 65 = .ok (.ireturn, 1) := dk_172 (dk_at dksX7_mergeOf_2 19 rfl rfl)
abbrev cX7_mergedOf : ByteArray := prog_22_method_84_code
def yX7_mergedOf : MethodName := ⟨RX7, "mergedOf", "(IIII)I"⟩
def dkwX7_mergedOf_2 : List UInt8 := [167, 0, 11, 42, 28, 29, 21, 4, 182, 1, 81, 172]
abbrev dktX7_mergedOf_2 : List UInt8 := dkwX7_mergedOf_2 ++ []
def dkwX7_mergedOf_1 : List UInt8 := [5, 160, 0, 25, 3, 42, 180, 0, 9, 3, 46, 29, 21, 4, 96, 28, 100, 184, 0, 130, 184, 0, 191]
abbrev dktX7_mergedOf_1 : List UInt8 := dkwX7_mergedOf_1 ++ dktX7_mergedOf_2
def dkwX7_mergedOf_0 : List UInt8 := [27, 154, 0, 10, 29, 21, 4, 184, 0, 191, 172, 27, 4, 160, 0, 10, 29, 21, 4, 184, 0, 130, 172, 27]
abbrev dktX7_mergedOf_0 : List UInt8 := dkwX7_mergedOf_0 ++ dktX7_mergedOf_1
theorem dksX7_mergedOf_0 : cX7_mergedOf.data.toList.drop 0 = dktX7_mergedOf_0 := by decide +kernel
theorem dksX7_mergedOf_1 : cX7_mergedOf.data.toList.drop 24 = dktX7_mergedOf_1 := dk_seg dksX7_mergedOf_0 24 rfl rfl
theorem dksX7_mergedOf_2 : cX7_mergedOf.data.toList.drop 47 = dktX7_mergedOf_2 := dk_seg dksX7_mergedOf_1 23 rfl rfl
theorem dX7_mergedOf_0 : decode cX7_mergedOf 0 = .ok (.iload_n 1, 1) := dk_27 (dk_at dksX7_mergedOf_0 0 rfl rfl)
theorem dX7_mergedOf_1 : decode cX7_mergedOf 1 = .ok (.ifCond .ne 10, 3) := dk_154 0 10 (dk_at dksX7_mergedOf_0 1 rfl rfl)
theorem dX7_mergedOf_4 : decode cX7_mergedOf 4 = .ok (.iload_n 3, 1) := dk_29 (dk_at dksX7_mergedOf_0 4 rfl rfl)
theorem dX7_mergedOf_5 : decode cX7_mergedOf 5 = .ok (.iload 4, 2) := dk_21 4 (dk_at dksX7_mergedOf_0 5 rfl rfl)
theorem dX7_mergedOf_7 : decode cX7_mergedOf 7 = .ok (.invokestatic 191, 3) := dk_184 0 191 (dk_at dksX7_mergedOf_0 7 rfl rfl)
theorem dX7_mergedOf_10 : decode cX7_mergedOf 10 = .ok (.ireturn, 1) := dk_172 (dk_at dksX7_mergedOf_0 10 rfl rfl)
theorem dX7_mergedOf_11 : decode cX7_mergedOf 11 = .ok (.iload_n 1, 1) := dk_27 (dk_at dksX7_mergedOf_0 11 rfl rfl)
theorem dX7_mergedOf_12 : decode cX7_mergedOf 12 = .ok (.iconst 1, 1) := dk_4 (dk_at dksX7_mergedOf_0 12 rfl rfl)
theorem dX7_mergedOf_13 : decode cX7_mergedOf 13 = .ok (.if_icmp .ne 10, 3) := dk_160 0 10 (dk_at dksX7_mergedOf_0 13 rfl rfl)
theorem dX7_mergedOf_16 : decode cX7_mergedOf 16 = .ok (.iload_n 3, 1) := dk_29 (dk_at dksX7_mergedOf_0 16 rfl rfl)
theorem dX7_mergedOf_17 : decode cX7_mergedOf 17 = .ok (.iload 4, 2) := dk_21 4 (dk_at dksX7_mergedOf_0 17 rfl rfl)
theorem dX7_mergedOf_19 : decode cX7_mergedOf 19 = .ok (.invokestatic 130, 3) := dk_184 0 130 (dk_at dksX7_mergedOf_0 19 rfl rfl)
theorem dX7_mergedOf_22 : decode cX7_mergedOf 22 = .ok (.ireturn, 1) := dk_172 (dk_at dksX7_mergedOf_0 22 rfl rfl)
theorem dX7_mergedOf_23 : decode cX7_mergedOf 23 = .ok (.iload_n 1, 1) := dk_27 (dk_at dksX7_mergedOf_0 23 rfl rfl)
theorem dX7_mergedOf_24 : decode cX7_mergedOf 24 = .ok (.iconst 2, 1) := dk_5 (dk_at dksX7_mergedOf_1 0 rfl rfl)
theorem dX7_mergedOf_25 : decode cX7_mergedOf 25 = .ok (.if_icmp .ne 25, 3) := dk_160 0 25 (dk_at dksX7_mergedOf_1 1 rfl rfl)
theorem dX7_mergedOf_28 : decode cX7_mergedOf 28 = .ok (.iconst 0, 1) := dk_3 (dk_at dksX7_mergedOf_1 4 rfl rfl)
theorem dX7_mergedOf_29 : decode cX7_mergedOf 29 = .ok (.aload_n 0, 1) := dk_42 (dk_at dksX7_mergedOf_1 5 rfl rfl)
theorem dX7_mergedOf_30 : decode cX7_mergedOf 30 = .ok (.getfield 9, 3) := dk_180 0 9 (dk_at dksX7_mergedOf_1 6 rfl rfl)
theorem dX7_mergedOf_33 : decode cX7_mergedOf 33 = .ok (.iconst 0, 1) := dk_3 (dk_at dksX7_mergedOf_1 9 rfl rfl)
theorem dX7_mergedOf_34 : decode cX7_mergedOf 34 = .ok (.iaload, 1) := dk_46 (dk_at dksX7_mergedOf_1 10 rfl rfl)
theorem dX7_mergedOf_35 : decode cX7_mergedOf 35 = .ok (.iload_n 3, 1) := dk_29 (dk_at dksX7_mergedOf_1 11 rfl rfl)
theorem dX7_mergedOf_36 : decode cX7_mergedOf 36 = .ok (.iload 4, 2) := dk_21 4 (dk_at dksX7_mergedOf_1 12 rfl rfl)
theorem dX7_mergedOf_38 : decode cX7_mergedOf 38 = .ok (.iadd, 1) := dk_96 (dk_at dksX7_mergedOf_1 14 rfl rfl)
theorem dX7_mergedOf_39 : decode cX7_mergedOf 39 = .ok (.iload_n 2, 1) := dk_28 (dk_at dksX7_mergedOf_1 15 rfl rfl)
theorem dX7_mergedOf_40 : decode cX7_mergedOf 40 = .ok (.isub, 1) := dk_100 (dk_at dksX7_mergedOf_1 16 rfl rfl)
theorem dX7_mergedOf_41 : decode cX7_mergedOf 41 = .ok (.invokestatic 130, 3) := dk_184 0 130 (dk_at dksX7_mergedOf_1 17 rfl rfl)
theorem dX7_mergedOf_44 : decode cX7_mergedOf 44 = .ok (.invokestatic 191, 3) := dk_184 0 191 (dk_at dksX7_mergedOf_1 20 rfl rfl)
theorem dX7_mergedOf_47 : decode cX7_mergedOf 47 = .ok (.goto 11, 3) := dk_167 0 11 (dk_at dksX7_mergedOf_2 0 rfl rfl)
theorem dX7_mergedOf_50 : decode cX7_mergedOf 50 = .ok (.aload_n 0, 1) := dk_42 (dk_at dksX7_mergedOf_2 3 rfl rfl)
theorem dX7_mergedOf_51 : decode cX7_mergedOf 51 = .ok (.iload_n 2, 1) := dk_28 (dk_at dksX7_mergedOf_2 4 rfl rfl)
theorem dX7_mergedOf_52 : decode cX7_mergedOf 52 = .ok (.iload_n 3, 1) := dk_29 (dk_at dksX7_mergedOf_2 5 rfl rfl)
theorem dX7_mergedOf_53 : decode cX7_mergedOf 53 = .ok (.iload 4, 2) := dk_21 4 (dk_at dksX7_mergedOf_2 6 rfl rfl)
theorem dX7_mergedOf_55 : decode cX7_mergedOf 55 = .ok (.invokevirtual 337, 3) := dk_182 1 81 (dk_at dksX7_mergedOf_2 8 rfl rfl)
theorem dX7_mergedOf_58 : decode cX7_mergedOf 58 = .ok (.ireturn, 1) := dk_172 (dk_at dksX7_mergedOf_2 11 rfl rfl)
abbrev cX7_lateOf : ByteArray := prog_22_method_83_code
def yX7_lateOf : MethodName := ⟨RX7, "lateOf", "(III)I"⟩
def dkwX7_lateOf_2 : List UInt8 := [167, 0, 4, 27, 172]
abbrev dktX7_lateOf_2 : List UInt8 := dkwX7_lateOf_2 ++ []
def dkwX7_lateOf_1 : List UInt8 := [180, 1, 20, 4, 160, 0, 7, 29, 167, 0, 20, 42, 180, 1, 20, 5, 160, 0, 11, 28, 29, 184, 0, 191]
abbrev dktX7_lateOf_1 : List UInt8 := dkwX7_lateOf_1 ++ dktX7_lateOf_2
def dkwX7_lateOf_0 : List UInt8 := [28, 27, 160, 0, 5, 29, 172, 29, 27, 159, 0, 10, 42, 180, 1, 20, 154, 0, 5, 28, 172, 42]
abbrev dktX7_lateOf_0 : List UInt8 := dkwX7_lateOf_0 ++ dktX7_lateOf_1
theorem dksX7_lateOf_0 : cX7_lateOf.data.toList.drop 0 = dktX7_lateOf_0 := by decide +kernel
theorem dksX7_lateOf_1 : cX7_lateOf.data.toList.drop 22 = dktX7_lateOf_1 := dk_seg dksX7_lateOf_0 22 rfl rfl
theorem dksX7_lateOf_2 : cX7_lateOf.data.toList.drop 46 = dktX7_lateOf_2 := dk_seg dksX7_lateOf_1 24 rfl rfl
theorem dX7_lateOf_0 : decode cX7_lateOf 0 = .ok (.iload_n 2, 1) := dk_28 (dk_at dksX7_lateOf_0 0 rfl rfl)
theorem dX7_lateOf_1 : decode cX7_lateOf 1 = .ok (.iload_n 1, 1) := dk_27 (dk_at dksX7_lateOf_0 1 rfl rfl)
theorem dX7_lateOf_2 : decode cX7_lateOf 2 = .ok (.if_icmp .ne 5, 3) := dk_160 0 5 (dk_at dksX7_lateOf_0 2 rfl rfl)
theorem dX7_lateOf_5 : decode cX7_lateOf 5 = .ok (.iload_n 3, 1) := dk_29 (dk_at dksX7_lateOf_0 5 rfl rfl)
theorem dX7_lateOf_6 : decode cX7_lateOf 6 = .ok (.ireturn, 1) := dk_172 (dk_at dksX7_lateOf_0 6 rfl rfl)
theorem dX7_lateOf_7 : decode cX7_lateOf 7 = .ok (.iload_n 3, 1) := dk_29 (dk_at dksX7_lateOf_0 7 rfl rfl)
theorem dX7_lateOf_8 : decode cX7_lateOf 8 = .ok (.iload_n 1, 1) := dk_27 (dk_at dksX7_lateOf_0 8 rfl rfl)
theorem dX7_lateOf_9 : decode cX7_lateOf 9 = .ok (.if_icmp .eq 10, 3) := dk_159 0 10 (dk_at dksX7_lateOf_0 9 rfl rfl)
theorem dX7_lateOf_12 : decode cX7_lateOf 12 = .ok (.aload_n 0, 1) := dk_42 (dk_at dksX7_lateOf_0 12 rfl rfl)
theorem dX7_lateOf_13 : decode cX7_lateOf 13 = .ok (.getfield 276, 3) := dk_180 1 20 (dk_at dksX7_lateOf_0 13 rfl rfl)
theorem dX7_lateOf_16 : decode cX7_lateOf 16 = .ok (.ifCond .ne 5, 3) := dk_154 0 5 (dk_at dksX7_lateOf_0 16 rfl rfl)
theorem dX7_lateOf_19 : decode cX7_lateOf 19 = .ok (.iload_n 2, 1) := dk_28 (dk_at dksX7_lateOf_0 19 rfl rfl)
theorem dX7_lateOf_20 : decode cX7_lateOf 20 = .ok (.ireturn, 1) := dk_172 (dk_at dksX7_lateOf_0 20 rfl rfl)
theorem dX7_lateOf_21 : decode cX7_lateOf 21 = .ok (.aload_n 0, 1) := dk_42 (dk_at dksX7_lateOf_0 21 rfl rfl)
theorem dX7_lateOf_22 : decode cX7_lateOf 22 = .ok (.getfield 276, 3) := dk_180 1 20 (dk_at dksX7_lateOf_1 0 rfl rfl)
theorem dX7_lateOf_25 : decode cX7_lateOf 25 = .ok (.iconst 1, 1) := dk_4 (dk_at dksX7_lateOf_1 3 rfl rfl)
theorem dX7_lateOf_26 : decode cX7_lateOf 26 = .ok (.if_icmp .ne 7, 3) := dk_160 0 7 (dk_at dksX7_lateOf_1 4 rfl rfl)
theorem dX7_lateOf_29 : decode cX7_lateOf 29 = .ok (.iload_n 3, 1) := dk_29 (dk_at dksX7_lateOf_1 7 rfl rfl)
theorem dX7_lateOf_30 : decode cX7_lateOf 30 = .ok (.goto 20, 3) := dk_167 0 20 (dk_at dksX7_lateOf_1 8 rfl rfl)
theorem dX7_lateOf_33 : decode cX7_lateOf 33 = .ok (.aload_n 0, 1) := dk_42 (dk_at dksX7_lateOf_1 11 rfl rfl)
theorem dX7_lateOf_34 : decode cX7_lateOf 34 = .ok (.getfield 276, 3) := dk_180 1 20 (dk_at dksX7_lateOf_1 12 rfl rfl)
theorem dX7_lateOf_37 : decode cX7_lateOf 37 = .ok (.iconst 2, 1) := dk_5 (dk_at dksX7_lateOf_1 15 rfl rfl)
theorem dX7_lateOf_38 : decode cX7_lateOf 38 = .ok (.if_icmp .ne 11, 3) := dk_160 0 11 (dk_at dksX7_lateOf_1 16 rfl rfl)
theorem dX7_lateOf_41 : decode cX7_lateOf 41 = .ok (.iload_n 2, 1) := dk_28 (dk_at dksX7_lateOf_1 19 rfl rfl)
theorem dX7_lateOf_42 : decode cX7_lateOf 42 = .ok (.iload_n 3, 1) := dk_29 (dk_at dksX7_lateOf_1 20 rfl rfl)
theorem dX7_lateOf_43 : decode cX7_lateOf 43 = .ok (.invokestatic 191, 3) := dk_184 0 191 (dk_at dksX7_lateOf_1 21 rfl rfl)
theorem dX7_lateOf_46 : decode cX7_lateOf 46 = .ok (.goto 4, 3) := dk_167 0 4 (dk_at dksX7_lateOf_2 0 rfl rfl)
theorem dX7_lateOf_49 : decode cX7_lateOf 49 = .ok (.iload_n 1, 1) := dk_27 (dk_at dksX7_lateOf_2 3 rfl rfl)
theorem dX7_lateOf_50 : decode cX7_lateOf 50 = .ok (.ireturn, 1) := dk_172 (dk_at dksX7_lateOf_2 4 rfl rfl)
abbrev cX7_even : ByteArray := prog_22_method_87_code
def yX7_even : MethodName := ⟨RX7, "even", "(III)I"⟩
def dkwX7_even_2 : List UInt8 := [29, 28, 182, 1, 88, 160, 0, 7, 4, 167, 0, 4, 3, 172]
abbrev dktX7_even_2 : List UInt8 := dkwX7_even_2 ++ []
def dkwX7_even_1 : List UInt8 := [153, 0, 12, 42, 29, 133, 182, 1, 58, 154, 0, 6, 16, 254, 172, 42, 27, 28, 29, 182, 1, 88, 42, 27]
abbrev dktX7_even_1 : List UInt8 := dkwX7_even_1 ++ dktX7_even_2
def dkwX7_even_0 : List UInt8 := [42, 182, 1, 62, 153, 0, 30, 42, 27, 133, 182, 1, 58, 153, 0, 21, 42, 28, 133, 182, 1, 58]
abbrev dktX7_even_0 : List UInt8 := dkwX7_even_0 ++ dktX7_even_1
theorem dksX7_even_0 : cX7_even.data.toList.drop 0 = dktX7_even_0 := by decide +kernel
theorem dksX7_even_1 : cX7_even.data.toList.drop 22 = dktX7_even_1 := dk_seg dksX7_even_0 22 rfl rfl
theorem dksX7_even_2 : cX7_even.data.toList.drop 46 = dktX7_even_2 := dk_seg dksX7_even_1 24 rfl rfl
theorem dX7_even_0 : decode cX7_even 0 = .ok (.aload_n 0, 1) := dk_42 (dk_at dksX7_even_0 0 rfl rfl)
theorem dX7_even_1 : decode cX7_even 1 = .ok (.invokevirtual 318, 3) := dk_182 1 62 (dk_at dksX7_even_0 1 rfl rfl)
theorem dX7_even_4 : decode cX7_even 4 = .ok (.ifCond .eq 30, 3) := dk_153 0 30 (dk_at dksX7_even_0 4 rfl rfl)
theorem dX7_even_7 : decode cX7_even 7 = .ok (.aload_n 0, 1) := dk_42 (dk_at dksX7_even_0 7 rfl rfl)
theorem dX7_even_8 : decode cX7_even 8 = .ok (.iload_n 1, 1) := dk_27 (dk_at dksX7_even_0 8 rfl rfl)
theorem dX7_even_9 : decode cX7_even 9 = .ok (.i2l, 1) := dk_133 (dk_at dksX7_even_0 9 rfl rfl)
theorem dX7_even_10 : decode cX7_even 10 = .ok (.invokevirtual 314, 3) := dk_182 1 58 (dk_at dksX7_even_0 10 rfl rfl)
theorem dX7_even_13 : decode cX7_even 13 = .ok (.ifCond .eq 21, 3) := dk_153 0 21 (dk_at dksX7_even_0 13 rfl rfl)
theorem dX7_even_16 : decode cX7_even 16 = .ok (.aload_n 0, 1) := dk_42 (dk_at dksX7_even_0 16 rfl rfl)
theorem dX7_even_17 : decode cX7_even 17 = .ok (.iload_n 2, 1) := dk_28 (dk_at dksX7_even_0 17 rfl rfl)
theorem dX7_even_18 : decode cX7_even 18 = .ok (.i2l, 1) := dk_133 (dk_at dksX7_even_0 18 rfl rfl)
theorem dX7_even_19 : decode cX7_even 19 = .ok (.invokevirtual 314, 3) := dk_182 1 58 (dk_at dksX7_even_0 19 rfl rfl)
theorem dX7_even_22 : decode cX7_even 22 = .ok (.ifCond .eq 12, 3) := dk_153 0 12 (dk_at dksX7_even_1 0 rfl rfl)
theorem dX7_even_25 : decode cX7_even 25 = .ok (.aload_n 0, 1) := dk_42 (dk_at dksX7_even_1 3 rfl rfl)
theorem dX7_even_26 : decode cX7_even 26 = .ok (.iload_n 3, 1) := dk_29 (dk_at dksX7_even_1 4 rfl rfl)
theorem dX7_even_27 : decode cX7_even 27 = .ok (.i2l, 1) := dk_133 (dk_at dksX7_even_1 5 rfl rfl)
theorem dX7_even_28 : decode cX7_even 28 = .ok (.invokevirtual 314, 3) := dk_182 1 58 (dk_at dksX7_even_1 6 rfl rfl)
theorem dX7_even_31 : decode cX7_even 31 = .ok (.ifCond .ne 6, 3) := dk_154 0 6 (dk_at dksX7_even_1 9 rfl rfl)
theorem dX7_even_34 : decode cX7_even 34 = .ok (.bipush (-2), 2) := dk_16 254 (dk_at dksX7_even_1 12 rfl rfl)
theorem dX7_even_36 : decode cX7_even 36 = .ok (.ireturn, 1) := dk_172 (dk_at dksX7_even_1 14 rfl rfl)
theorem dX7_even_37 : decode cX7_even 37 = .ok (.aload_n 0, 1) := dk_42 (dk_at dksX7_even_1 15 rfl rfl)
theorem dX7_even_38 : decode cX7_even 38 = .ok (.iload_n 1, 1) := dk_27 (dk_at dksX7_even_1 16 rfl rfl)
theorem dX7_even_39 : decode cX7_even 39 = .ok (.iload_n 2, 1) := dk_28 (dk_at dksX7_even_1 17 rfl rfl)
theorem dX7_even_40 : decode cX7_even 40 = .ok (.iload_n 3, 1) := dk_29 (dk_at dksX7_even_1 18 rfl rfl)
theorem dX7_even_41 : decode cX7_even 41 = .ok (.invokevirtual 344, 3) := dk_182 1 88 (dk_at dksX7_even_1 19 rfl rfl)
theorem dX7_even_44 : decode cX7_even 44 = .ok (.aload_n 0, 1) := dk_42 (dk_at dksX7_even_1 22 rfl rfl)
theorem dX7_even_45 : decode cX7_even 45 = .ok (.iload_n 1, 1) := dk_27 (dk_at dksX7_even_1 23 rfl rfl)
theorem dX7_even_46 : decode cX7_even 46 = .ok (.iload_n 3, 1) := dk_29 (dk_at dksX7_even_2 0 rfl rfl)
theorem dX7_even_47 : decode cX7_even 47 = .ok (.iload_n 2, 1) := dk_28 (dk_at dksX7_even_2 1 rfl rfl)
theorem dX7_even_48 : decode cX7_even 48 = .ok (.invokevirtual 344, 3) := dk_182 1 88 (dk_at dksX7_even_2 2 rfl rfl)
theorem dX7_even_51 : decode cX7_even 51 = .ok (.if_icmp .ne 7, 3) := dk_160 0 7 (dk_at dksX7_even_2 5 rfl rfl)
theorem dX7_even_54 : decode cX7_even 54 = .ok (.iconst 1, 1) := dk_4 (dk_at dksX7_even_2 8 rfl rfl)
theorem dX7_even_55 : decode cX7_even 55 = .ok (.goto 4, 3) := dk_167 0 4 (dk_at dksX7_even_2 9 rfl rfl)
theorem dX7_even_58 : decode cX7_even 58 = .ok (.iconst 0, 1) := dk_3 (dk_at dksX7_even_2 12 rfl rfl)
theorem dX7_even_59 : decode cX7_even 59 = .ok (.ireturn, 1) := dk_172 (dk_at dksX7_even_2 13 rfl rfl)
abbrev cX7_clashes : ByteArray := prog_22_method_88_code
def yX7_clashes : MethodName := ⟨RX7, "clashes", "(II)I"⟩
def dkwX7_clashes_5 : List UInt8 := [167, 255, 173, 29, 172]
abbrev dktX7_clashes_5 : List UInt8 := dkwX7_clashes_5 ++ []
def dkwX7_clashes_4 : List UInt8 := [21, 4, 182, 1, 69, 182, 1, 88, 51, 153, 0, 7, 3, 167, 0, 4, 4, 96, 62, 132, 4, 1]
abbrev dktX7_clashes_4 : List UInt8 := dkwX7_clashes_4 ++ dktX7_clashes_5
def dkwX7_clashes_3 : List UInt8 := [160, 0, 6, 167, 0, 39, 29, 42, 180, 0, 37, 42, 21, 4, 42, 27, 21, 4, 182, 1, 69, 42, 28]
abbrev dktX7_clashes_3 : List UInt8 := dkwX7_clashes_3 ++ dktX7_clashes_4
def dkwX7_clashes_2 : List UInt8 := [153, 0, 64, 42, 27, 21, 4, 182, 1, 69, 2, 159, 0, 53, 42, 28, 21, 4, 182, 1, 69, 2]
abbrev dktX7_clashes_2 : List UInt8 := dkwX7_clashes_2 ++ dktX7_clashes_3
def dkwX7_clashes_1 : List UInt8 := [16, 254, 172, 3, 62, 3, 54, 4, 21, 4, 42, 182, 0, 96, 162, 0, 80, 42, 180, 0, 37, 21, 4, 51]
abbrev dktX7_clashes_1 : List UInt8 := dkwX7_clashes_1 ++ dktX7_clashes_2
def dkwX7_clashes_0 : List UInt8 := [42, 182, 1, 62, 153, 0, 19, 42, 27, 182, 1, 11, 153, 0, 11, 42, 28, 182, 1, 11, 154, 0, 6]
abbrev dktX7_clashes_0 : List UInt8 := dkwX7_clashes_0 ++ dktX7_clashes_1
theorem dksX7_clashes_0 : cX7_clashes.data.toList.drop 0 = dktX7_clashes_0 := by decide +kernel
theorem dksX7_clashes_1 : cX7_clashes.data.toList.drop 23 = dktX7_clashes_1 := dk_seg dksX7_clashes_0 23 rfl rfl
theorem dksX7_clashes_2 : cX7_clashes.data.toList.drop 47 = dktX7_clashes_2 := dk_seg dksX7_clashes_1 24 rfl rfl
theorem dksX7_clashes_3 : cX7_clashes.data.toList.drop 69 = dktX7_clashes_3 := dk_seg dksX7_clashes_2 22 rfl rfl
theorem dksX7_clashes_4 : cX7_clashes.data.toList.drop 92 = dktX7_clashes_4 := dk_seg dksX7_clashes_3 23 rfl rfl
theorem dksX7_clashes_5 : cX7_clashes.data.toList.drop 114 = dktX7_clashes_5 := dk_seg dksX7_clashes_4 22 rfl rfl
theorem dX7_clashes_0 : decode cX7_clashes 0 = .ok (.aload_n 0, 1) := dk_42 (dk_at dksX7_clashes_0 0 rfl rfl)
theorem dX7_clashes_1 : decode cX7_clashes 1 = .ok (.invokevirtual 318, 3) := dk_182 1 62 (dk_at dksX7_clashes_0 1 rfl rfl)
theorem dX7_clashes_4 : decode cX7_clashes 4 = .ok (.ifCond .eq 19, 3) := dk_153 0 19 (dk_at dksX7_clashes_0 4 rfl rfl)
theorem dX7_clashes_7 : decode cX7_clashes 7 = .ok (.aload_n 0, 1) := dk_42 (dk_at dksX7_clashes_0 7 rfl rfl)
theorem dX7_clashes_8 : decode cX7_clashes 8 = .ok (.iload_n 1, 1) := dk_27 (dk_at dksX7_clashes_0 8 rfl rfl)
theorem dX7_clashes_9 : decode cX7_clashes 9 = .ok (.invokevirtual 267, 3) := dk_182 1 11 (dk_at dksX7_clashes_0 9 rfl rfl)
theorem dX7_clashes_12 : decode cX7_clashes 12 = .ok (.ifCond .eq 11, 3) := dk_153 0 11 (dk_at dksX7_clashes_0 12 rfl rfl)
theorem dX7_clashes_15 : decode cX7_clashes 15 = .ok (.aload_n 0, 1) := dk_42 (dk_at dksX7_clashes_0 15 rfl rfl)
theorem dX7_clashes_16 : decode cX7_clashes 16 = .ok (.iload_n 2, 1) := dk_28 (dk_at dksX7_clashes_0 16 rfl rfl)
theorem dX7_clashes_17 : decode cX7_clashes 17 = .ok (.invokevirtual 267, 3) := dk_182 1 11 (dk_at dksX7_clashes_0 17 rfl rfl)
theorem dX7_clashes_20 : decode cX7_clashes 20 = .ok (.ifCond .ne 6, 3) := dk_154 0 6 (dk_at dksX7_clashes_0 20 rfl rfl)
theorem dX7_clashes_23 : decode cX7_clashes 23 = .ok (.bipush (-2), 2) := dk_16 254 (dk_at dksX7_clashes_1 0 rfl rfl)
theorem dX7_clashes_25 : decode cX7_clashes 25 = .ok (.ireturn, 1) := dk_172 (dk_at dksX7_clashes_1 2 rfl rfl)
theorem dX7_clashes_26 : decode cX7_clashes 26 = .ok (.iconst 0, 1) := dk_3 (dk_at dksX7_clashes_1 3 rfl rfl)
theorem dX7_clashes_27 : decode cX7_clashes 27 = .ok (.istore_n 3, 1) := dk_62 (dk_at dksX7_clashes_1 4 rfl rfl)
theorem dX7_clashes_28 : decode cX7_clashes 28 = .ok (.iconst 0, 1) := dk_3 (dk_at dksX7_clashes_1 5 rfl rfl)
theorem dX7_clashes_29 : decode cX7_clashes 29 = .ok (.istore 4, 2) := dk_54 4 (dk_at dksX7_clashes_1 6 rfl rfl)
theorem dX7_clashes_31 : decode cX7_clashes 31 = .ok (.iload 4, 2) := dk_21 4 (dk_at dksX7_clashes_1 8 rfl rfl)
theorem dX7_clashes_33 : decode cX7_clashes 33 = .ok (.aload_n 0, 1) := dk_42 (dk_at dksX7_clashes_1 10 rfl rfl)
theorem dX7_clashes_34 : decode cX7_clashes 34 = .ok (.invokevirtual 96, 3) := dk_182 0 96 (dk_at dksX7_clashes_1 11 rfl rfl)
theorem dX7_clashes_37 : decode cX7_clashes 37 = .ok (.if_icmp .ge 80, 3) := dk_162 0 80 (dk_at dksX7_clashes_1 14 rfl rfl)
theorem dX7_clashes_40 : decode cX7_clashes 40 = .ok (.aload_n 0, 1) := dk_42 (dk_at dksX7_clashes_1 17 rfl rfl)
theorem dX7_clashes_41 : decode cX7_clashes 41 = .ok (.getfield 37, 3) := dk_180 0 37 (dk_at dksX7_clashes_1 18 rfl rfl)
theorem dX7_clashes_44 : decode cX7_clashes 44 = .ok (.iload 4, 2) := dk_21 4 (dk_at dksX7_clashes_1 21 rfl rfl)
theorem dX7_clashes_46 : decode cX7_clashes 46 = .ok (.baload, 1) := dk_51 (dk_at dksX7_clashes_1 23 rfl rfl)
theorem dX7_clashes_47 : decode cX7_clashes 47 = .ok (.ifCond .eq 64, 3) := dk_153 0 64 (dk_at dksX7_clashes_2 0 rfl rfl)
theorem dX7_clashes_50 : decode cX7_clashes 50 = .ok (.aload_n 0, 1) := dk_42 (dk_at dksX7_clashes_2 3 rfl rfl)
theorem dX7_clashes_51 : decode cX7_clashes 51 = .ok (.iload_n 1, 1) := dk_27 (dk_at dksX7_clashes_2 4 rfl rfl)
theorem dX7_clashes_52 : decode cX7_clashes 52 = .ok (.iload 4, 2) := dk_21 4 (dk_at dksX7_clashes_2 5 rfl rfl)
theorem dX7_clashes_54 : decode cX7_clashes 54 = .ok (.invokevirtual 325, 3) := dk_182 1 69 (dk_at dksX7_clashes_2 7 rfl rfl)
theorem dX7_clashes_57 : decode cX7_clashes 57 = .ok (.iconst (-1), 1) := dk_2 (dk_at dksX7_clashes_2 10 rfl rfl)
theorem dX7_clashes_58 : decode cX7_clashes 58 = .ok (.if_icmp .eq 53, 3) := dk_159 0 53 (dk_at dksX7_clashes_2 11 rfl rfl)
theorem dX7_clashes_61 : decode cX7_clashes 61 = .ok (.aload_n 0, 1) := dk_42 (dk_at dksX7_clashes_2 14 rfl rfl)
theorem dX7_clashes_62 : decode cX7_clashes 62 = .ok (.iload_n 2, 1) := dk_28 (dk_at dksX7_clashes_2 15 rfl rfl)
theorem dX7_clashes_63 : decode cX7_clashes 63 = .ok (.iload 4, 2) := dk_21 4 (dk_at dksX7_clashes_2 16 rfl rfl)
theorem dX7_clashes_65 : decode cX7_clashes 65 = .ok (.invokevirtual 325, 3) := dk_182 1 69 (dk_at dksX7_clashes_2 18 rfl rfl)
theorem dX7_clashes_68 : decode cX7_clashes 68 = .ok (.iconst (-1), 1) := dk_2 (dk_at dksX7_clashes_2 21 rfl rfl)
theorem dX7_clashes_69 : decode cX7_clashes 69 = .ok (.if_icmp .ne 6, 3) := dk_160 0 6 (dk_at dksX7_clashes_3 0 rfl rfl)
theorem dX7_clashes_72 : decode cX7_clashes 72 = .ok (.goto 39, 3) := dk_167 0 39 (dk_at dksX7_clashes_3 3 rfl rfl)
theorem dX7_clashes_75 : decode cX7_clashes 75 = .ok (.iload_n 3, 1) := dk_29 (dk_at dksX7_clashes_3 6 rfl rfl)
theorem dX7_clashes_76 : decode cX7_clashes 76 = .ok (.aload_n 0, 1) := dk_42 (dk_at dksX7_clashes_3 7 rfl rfl)
theorem dX7_clashes_77 : decode cX7_clashes 77 = .ok (.getfield 37, 3) := dk_180 0 37 (dk_at dksX7_clashes_3 8 rfl rfl)
theorem dX7_clashes_80 : decode cX7_clashes 80 = .ok (.aload_n 0, 1) := dk_42 (dk_at dksX7_clashes_3 11 rfl rfl)
theorem dX7_clashes_81 : decode cX7_clashes 81 = .ok (.iload 4, 2) := dk_21 4 (dk_at dksX7_clashes_3 12 rfl rfl)
theorem dX7_clashes_83 : decode cX7_clashes 83 = .ok (.aload_n 0, 1) := dk_42 (dk_at dksX7_clashes_3 14 rfl rfl)
theorem dX7_clashes_84 : decode cX7_clashes 84 = .ok (.iload_n 1, 1) := dk_27 (dk_at dksX7_clashes_3 15 rfl rfl)
theorem dX7_clashes_85 : decode cX7_clashes 85 = .ok (.iload 4, 2) := dk_21 4 (dk_at dksX7_clashes_3 16 rfl rfl)
theorem dX7_clashes_87 : decode cX7_clashes 87 = .ok (.invokevirtual 325, 3) := dk_182 1 69 (dk_at dksX7_clashes_3 18 rfl rfl)
theorem dX7_clashes_90 : decode cX7_clashes 90 = .ok (.aload_n 0, 1) := dk_42 (dk_at dksX7_clashes_3 21 rfl rfl)
theorem dX7_clashes_91 : decode cX7_clashes 91 = .ok (.iload_n 2, 1) := dk_28 (dk_at dksX7_clashes_3 22 rfl rfl)
theorem dX7_clashes_92 : decode cX7_clashes 92 = .ok (.iload 4, 2) := dk_21 4 (dk_at dksX7_clashes_4 0 rfl rfl)
theorem dX7_clashes_94 : decode cX7_clashes 94 = .ok (.invokevirtual 325, 3) := dk_182 1 69 (dk_at dksX7_clashes_4 2 rfl rfl)
theorem dX7_clashes_97 : decode cX7_clashes 97 = .ok (.invokevirtual 344, 3) := dk_182 1 88 (dk_at dksX7_clashes_4 5 rfl rfl)
theorem dX7_clashes_100 : decode cX7_clashes 100 = .ok (.baload, 1) := dk_51 (dk_at dksX7_clashes_4 8 rfl rfl)
theorem dX7_clashes_101 : decode cX7_clashes 101 = .ok (.ifCond .eq 7, 3) := dk_153 0 7 (dk_at dksX7_clashes_4 9 rfl rfl)
theorem dX7_clashes_104 : decode cX7_clashes 104 = .ok (.iconst 0, 1) := dk_3 (dk_at dksX7_clashes_4 12 rfl rfl)
theorem dX7_clashes_105 : decode cX7_clashes 105 = .ok (.goto 4, 3) := dk_167 0 4 (dk_at dksX7_clashes_4 13 rfl rfl)
theorem dX7_clashes_108 : decode cX7_clashes 108 = .ok (.iconst 1, 1) := dk_4 (dk_at dksX7_clashes_4 16 rfl rfl)
theorem dX7_clashes_109 : decode cX7_clashes 109 = .ok (.iadd, 1) := dk_96 (dk_at dksX7_clashes_4 17 rfl rfl)
theorem dX7_clashes_110 : decode cX7_clashes 110 = .ok (.istore_n 3, 1) := dk_62 (dk_at dksX7_clashes_4 18 rfl rfl)
theorem dX7_clashes_111 : decode cX7_clashes 111 = .ok (.iinc 4 1, 3) := dk_132 4 1 (dk_at dksX7_clashes_4 19 rfl rfl)
theorem dX7_clashes_114 : decode cX7_clashes 114 = .ok (.goto (-83), 3) := dk_167 255 173 (dk_at dksX7_clashes_5 0 rfl rfl)
theorem dX7_clashes_117 : decode cX7_clashes 117 = .ok (.iload_n 3, 1) := dk_29 (dk_at dksX7_clashes_5 3 rfl rfl)
theorem dX7_clashes_118 : decode cX7_clashes 118 = .ok (.ireturn, 1) := dk_172 (dk_at dksX7_clashes_5 4 rfl rfl)
abbrev cX7_reach : ByteArray := prog_22_method_94_code
def yX7_reach : MethodName := ⟨RX7, "reach", "(II)I"⟩
def dkwX7_reach_1 : List UInt8 := [184, 1, 104, 182, 1, 108, 167, 0, 5, 16, 254, 172]
abbrev dktX7_reach_1 : List UInt8 := dkwX7_reach_1 ++ []
def dkwX7_reach_0 : List UInt8 := [42, 27, 182, 1, 98, 153, 0, 26, 28, 184, 1, 101, 153, 0, 19, 42, 27, 42, 180, 0, 43, 28]
abbrev dktX7_reach_0 : List UInt8 := dkwX7_reach_0 ++ dktX7_reach_1
theorem dksX7_reach_0 : cX7_reach.data.toList.drop 0 = dktX7_reach_0 := by decide +kernel
theorem dksX7_reach_1 : cX7_reach.data.toList.drop 22 = dktX7_reach_1 := dk_seg dksX7_reach_0 22 rfl rfl
theorem dX7_reach_0 : decode cX7_reach 0 = .ok (.aload_n 0, 1) := dk_42 (dk_at dksX7_reach_0 0 rfl rfl)
theorem dX7_reach_1 : decode cX7_reach 1 = .ok (.iload_n 1, 1) := dk_27 (dk_at dksX7_reach_0 1 rfl rfl)
theorem dX7_reach_2 : decode cX7_reach 2 = .ok (.invokevirtual 354, 3) := dk_182 1 98 (dk_at dksX7_reach_0 2 rfl rfl)
theorem dX7_reach_5 : decode cX7_reach 5 = .ok (.ifCond .eq 26, 3) := dk_153 0 26 (dk_at dksX7_reach_0 5 rfl rfl)
theorem dX7_reach_8 : decode cX7_reach 8 = .ok (.iload_n 2, 1) := dk_28 (dk_at dksX7_reach_0 8 rfl rfl)
theorem dX7_reach_9 : decode cX7_reach 9 = .ok (.invokestatic 357, 3) := dk_184 1 101 (dk_at dksX7_reach_0 9 rfl rfl)
theorem dX7_reach_12 : decode cX7_reach 12 = .ok (.ifCond .eq 19, 3) := dk_153 0 19 (dk_at dksX7_reach_0 12 rfl rfl)
theorem dX7_reach_15 : decode cX7_reach 15 = .ok (.aload_n 0, 1) := dk_42 (dk_at dksX7_reach_0 15 rfl rfl)
theorem dX7_reach_16 : decode cX7_reach 16 = .ok (.iload_n 1, 1) := dk_27 (dk_at dksX7_reach_0 16 rfl rfl)
theorem dX7_reach_17 : decode cX7_reach 17 = .ok (.aload_n 0, 1) := dk_42 (dk_at dksX7_reach_0 17 rfl rfl)
theorem dX7_reach_18 : decode cX7_reach 18 = .ok (.getfield 43, 3) := dk_180 0 43 (dk_at dksX7_reach_0 18 rfl rfl)
theorem dX7_reach_21 : decode cX7_reach 21 = .ok (.iload_n 2, 1) := dk_28 (dk_at dksX7_reach_0 21 rfl rfl)
theorem dX7_reach_22 : decode cX7_reach 22 = .ok (.invokestatic 360, 3) := dk_184 1 104 (dk_at dksX7_reach_1 0 rfl rfl)
theorem dX7_reach_25 : decode cX7_reach 25 = .ok (.invokevirtual 364, 3) := dk_182 1 108 (dk_at dksX7_reach_1 3 rfl rfl)
theorem dX7_reach_28 : decode cX7_reach 28 = .ok (.goto 5, 3) := dk_167 0 5 (dk_at dksX7_reach_1 6 rfl rfl)
theorem dX7_reach_31 : decode cX7_reach 31 = .ok (.bipush (-2), 2) := dk_16 254 (dk_at dksX7_reach_1 9 rfl rfl)
theorem dX7_reach_33 : decode cX7_reach 33 = .ok (.ireturn, 1) := dk_172 (dk_at dksX7_reach_1 11 rfl rfl)
abbrev cX7_asksSides : ByteArray := prog_22_method_93_code
def yX7_asksSides : MethodName := ⟨RX7, "asksSides", "(I)Z"⟩
def dkwX7_asksSides_1 : List UInt8 := [172]
abbrev dktX7_asksSides_1 : List UInt8 := dkwX7_asksSides_1 ++ []
def dkwX7_asksSides_0 : List UInt8 := [42, 182, 1, 62, 153, 0, 12, 42, 27, 133, 182, 1, 58, 154, 0, 5, 3, 172, 42, 27, 182, 1, 95, 4]
abbrev dktX7_asksSides_0 : List UInt8 := dkwX7_asksSides_0 ++ dktX7_asksSides_1
theorem dksX7_asksSides_0 : cX7_asksSides.data.toList.drop 0 = dktX7_asksSides_0 := by decide +kernel
theorem dksX7_asksSides_1 : cX7_asksSides.data.toList.drop 24 = dktX7_asksSides_1 := dk_seg dksX7_asksSides_0 24 rfl rfl
theorem dX7_asksSides_0 : decode cX7_asksSides 0 = .ok (.aload_n 0, 1) := dk_42 (dk_at dksX7_asksSides_0 0 rfl rfl)
theorem dX7_asksSides_1 : decode cX7_asksSides 1 = .ok (.invokevirtual 318, 3) := dk_182 1 62 (dk_at dksX7_asksSides_0 1 rfl rfl)
theorem dX7_asksSides_4 : decode cX7_asksSides 4 = .ok (.ifCond .eq 12, 3) := dk_153 0 12 (dk_at dksX7_asksSides_0 4 rfl rfl)
theorem dX7_asksSides_7 : decode cX7_asksSides 7 = .ok (.aload_n 0, 1) := dk_42 (dk_at dksX7_asksSides_0 7 rfl rfl)
theorem dX7_asksSides_8 : decode cX7_asksSides 8 = .ok (.iload_n 1, 1) := dk_27 (dk_at dksX7_asksSides_0 8 rfl rfl)
theorem dX7_asksSides_9 : decode cX7_asksSides 9 = .ok (.i2l, 1) := dk_133 (dk_at dksX7_asksSides_0 9 rfl rfl)
theorem dX7_asksSides_10 : decode cX7_asksSides 10 = .ok (.invokevirtual 314, 3) := dk_182 1 58 (dk_at dksX7_asksSides_0 10 rfl rfl)
theorem dX7_asksSides_13 : decode cX7_asksSides 13 = .ok (.ifCond .ne 5, 3) := dk_154 0 5 (dk_at dksX7_asksSides_0 13 rfl rfl)
theorem dX7_asksSides_16 : decode cX7_asksSides 16 = .ok (.iconst 0, 1) := dk_3 (dk_at dksX7_asksSides_0 16 rfl rfl)
theorem dX7_asksSides_17 : decode cX7_asksSides 17 = .ok (.ireturn, 1) := dk_172 (dk_at dksX7_asksSides_0 17 rfl rfl)
theorem dX7_asksSides_18 : decode cX7_asksSides 18 = .ok (.aload_n 0, 1) := dk_42 (dk_at dksX7_asksSides_0 18 rfl rfl)
theorem dX7_asksSides_19 : decode cX7_asksSides 19 = .ok (.iload_n 1, 1) := dk_27 (dk_at dksX7_asksSides_0 19 rfl rfl)
theorem dX7_asksSides_20 : decode cX7_asksSides 20 = .ok (.invokevirtual 351, 3) := dk_182 1 95 (dk_at dksX7_asksSides_0 20 rfl rfl)
theorem dX7_asksSides_23 : decode cX7_asksSides 23 = .ok (.iconst 1, 1) := dk_4 (dk_at dksX7_asksSides_0 23 rfl rfl)
theorem dX7_asksSides_24 : decode cX7_asksSides 24 = .ok (.ireturn, 1) := dk_172 (dk_at dksX7_asksSides_1 0 rfl rfl)
abbrev cX7_laySides : ByteArray := prog_22_method_90_code
def yX7_laySides : MethodName := ⟨RX7, "laySides", "(I)V"⟩
def dkwX7_laySides_0 : List UInt8 := [42, 42, 180, 0, 43, 27, 3, 182, 1, 91, 42, 42, 180, 0, 46, 27, 42, 180, 1, 23, 182, 1, 91, 177]
abbrev dktX7_laySides_0 : List UInt8 := dkwX7_laySides_0 ++ []
theorem dksX7_laySides_0 : cX7_laySides.data.toList.drop 0 = dktX7_laySides_0 := by decide +kernel
theorem dX7_laySides_0 : decode cX7_laySides 0 = .ok (.aload_n 0, 1) := dk_42 (dk_at dksX7_laySides_0 0 rfl rfl)
theorem dX7_laySides_1 : decode cX7_laySides 1 = .ok (.aload_n 0, 1) := dk_42 (dk_at dksX7_laySides_0 1 rfl rfl)
theorem dX7_laySides_2 : decode cX7_laySides 2 = .ok (.getfield 43, 3) := dk_180 0 43 (dk_at dksX7_laySides_0 2 rfl rfl)
theorem dX7_laySides_5 : decode cX7_laySides 5 = .ok (.iload_n 1, 1) := dk_27 (dk_at dksX7_laySides_0 5 rfl rfl)
theorem dX7_laySides_6 : decode cX7_laySides 6 = .ok (.iconst 0, 1) := dk_3 (dk_at dksX7_laySides_0 6 rfl rfl)
theorem dX7_laySides_7 : decode cX7_laySides 7 = .ok (.invokevirtual 347, 3) := dk_182 1 91 (dk_at dksX7_laySides_0 7 rfl rfl)
theorem dX7_laySides_10 : decode cX7_laySides 10 = .ok (.aload_n 0, 1) := dk_42 (dk_at dksX7_laySides_0 10 rfl rfl)
theorem dX7_laySides_11 : decode cX7_laySides 11 = .ok (.aload_n 0, 1) := dk_42 (dk_at dksX7_laySides_0 11 rfl rfl)
theorem dX7_laySides_12 : decode cX7_laySides 12 = .ok (.getfield 46, 3) := dk_180 0 46 (dk_at dksX7_laySides_0 12 rfl rfl)
theorem dX7_laySides_15 : decode cX7_laySides 15 = .ok (.iload_n 1, 1) := dk_27 (dk_at dksX7_laySides_0 15 rfl rfl)
theorem dX7_laySides_16 : decode cX7_laySides 16 = .ok (.aload_n 0, 1) := dk_42 (dk_at dksX7_laySides_0 16 rfl rfl)
theorem dX7_laySides_17 : decode cX7_laySides 17 = .ok (.getfield 279, 3) := dk_180 1 23 (dk_at dksX7_laySides_0 17 rfl rfl)
theorem dX7_laySides_20 : decode cX7_laySides 20 = .ok (.invokevirtual 347, 3) := dk_182 1 91 (dk_at dksX7_laySides_0 20 rfl rfl)
theorem dX7_laySides_23 : decode cX7_laySides 23 = .ok (.return_, 1) := dk_177 (dk_at dksX7_laySides_0 23 rfl rfl)
abbrev cX7_layFar : ByteArray := prog_22_method_89_code
def yX7_layFar : MethodName := ⟨RX7, "layFar", "([III)V"⟩
def dkwX7_layFar_6 : List UInt8 := [132, 4, 1, 167, 255, 151, 177]
abbrev dktX7_layFar_6 : List UInt8 := dkwX7_layFar_6 ++ []
def dkwX7_layFar_5 : List UInt8 := [182, 1, 69, 46, 21, 4, 4, 96, 184, 0, 130, 79, 132, 6, 1, 167, 255, 196, 132, 5, 1, 167, 255, 166]
abbrev dktX7_layFar_5 : List UInt8 := dkwX7_layFar_5 ++ dktX7_layFar_6
def dkwX7_layFar_4 : List UInt8 := [21, 5, 182, 1, 69, 2, 159, 0, 30, 43, 42, 21, 6, 21, 5, 182, 1, 69, 43, 42, 21, 6, 21, 5]
abbrev dktX7_layFar_4 : List UInt8 := dkwX7_layFar_4 ++ dktX7_layFar_5
def dkwX7_layFar_3 : List UInt8 := [54, 6, 21, 6, 42, 182, 0, 84, 162, 0, 57, 29, 21, 6, 184, 1, 32, 154, 0, 42, 42, 21, 6]
abbrev dktX7_layFar_3 : List UInt8 := dkwX7_layFar_3 ++ dktX7_layFar_4
def dkwX7_layFar_2 : List UInt8 := [54, 5, 21, 5, 42, 182, 0, 96, 162, 0, 87, 43, 21, 5, 46, 21, 4, 159, 0, 6, 167, 0, 69, 3]
abbrev dktX7_layFar_2 : List UInt8 := dkwX7_layFar_2 ++ dktX7_layFar_3
def dkwX7_layFar_1 : List UInt8 := [180, 0, 37, 28, 51, 154, 0, 4, 177, 43, 28, 3, 79, 3, 54, 4, 21, 4, 6, 162, 0, 105, 3]
abbrev dktX7_layFar_1 : List UInt8 := dkwX7_layFar_1 ++ dktX7_layFar_2
def dkwX7_layFar_0 : List UInt8 := [3, 54, 4, 21, 4, 16, 64, 162, 0, 16, 43, 21, 4, 19, 1, 68, 79, 132, 4, 1, 167, 255, 239, 42]
abbrev dktX7_layFar_0 : List UInt8 := dkwX7_layFar_0 ++ dktX7_layFar_1
theorem dksX7_layFar_0 : cX7_layFar.data.toList.drop 0 = dktX7_layFar_0 := by decide +kernel
theorem dksX7_layFar_1 : cX7_layFar.data.toList.drop 24 = dktX7_layFar_1 := dk_seg dksX7_layFar_0 24 rfl rfl
theorem dksX7_layFar_2 : cX7_layFar.data.toList.drop 47 = dktX7_layFar_2 := dk_seg dksX7_layFar_1 23 rfl rfl
theorem dksX7_layFar_3 : cX7_layFar.data.toList.drop 71 = dktX7_layFar_3 := dk_seg dksX7_layFar_2 24 rfl rfl
theorem dksX7_layFar_4 : cX7_layFar.data.toList.drop 94 = dktX7_layFar_4 := dk_seg dksX7_layFar_3 23 rfl rfl
theorem dksX7_layFar_5 : cX7_layFar.data.toList.drop 118 = dktX7_layFar_5 := dk_seg dksX7_layFar_4 24 rfl rfl
theorem dksX7_layFar_6 : cX7_layFar.data.toList.drop 142 = dktX7_layFar_6 := dk_seg dksX7_layFar_5 24 rfl rfl
theorem dX7_layFar_0 : decode cX7_layFar 0 = .ok (.iconst 0, 1) := dk_3 (dk_at dksX7_layFar_0 0 rfl rfl)
theorem dX7_layFar_1 : decode cX7_layFar 1 = .ok (.istore 4, 2) := dk_54 4 (dk_at dksX7_layFar_0 1 rfl rfl)
theorem dX7_layFar_3 : decode cX7_layFar 3 = .ok (.iload 4, 2) := dk_21 4 (dk_at dksX7_layFar_0 3 rfl rfl)
theorem dX7_layFar_5 : decode cX7_layFar 5 = .ok (.bipush 64, 2) := dk_16 64 (dk_at dksX7_layFar_0 5 rfl rfl)
theorem dX7_layFar_7 : decode cX7_layFar 7 = .ok (.if_icmp .ge 16, 3) := dk_162 0 16 (dk_at dksX7_layFar_0 7 rfl rfl)
theorem dX7_layFar_10 : decode cX7_layFar 10 = .ok (.aload_n 1, 1) := dk_43 (dk_at dksX7_layFar_0 10 rfl rfl)
theorem dX7_layFar_11 : decode cX7_layFar 11 = .ok (.iload 4, 2) := dk_21 4 (dk_at dksX7_layFar_0 11 rfl rfl)
theorem dX7_layFar_13 : decode cX7_layFar 13 = .ok (.ldc_w 324, 3) := dk_19 1 68 (dk_at dksX7_layFar_0 13 rfl rfl)
theorem dX7_layFar_16 : decode cX7_layFar 16 = .ok (.iastore, 1) := dk_79 (dk_at dksX7_layFar_0 16 rfl rfl)
theorem dX7_layFar_17 : decode cX7_layFar 17 = .ok (.iinc 4 1, 3) := dk_132 4 1 (dk_at dksX7_layFar_0 17 rfl rfl)
theorem dX7_layFar_20 : decode cX7_layFar 20 = .ok (.goto (-17), 3) := dk_167 255 239 (dk_at dksX7_layFar_0 20 rfl rfl)
theorem dX7_layFar_23 : decode cX7_layFar 23 = .ok (.aload_n 0, 1) := dk_42 (dk_at dksX7_layFar_0 23 rfl rfl)
theorem dX7_layFar_24 : decode cX7_layFar 24 = .ok (.getfield 37, 3) := dk_180 0 37 (dk_at dksX7_layFar_1 0 rfl rfl)
theorem dX7_layFar_27 : decode cX7_layFar 27 = .ok (.iload_n 2, 1) := dk_28 (dk_at dksX7_layFar_1 3 rfl rfl)
theorem dX7_layFar_28 : decode cX7_layFar 28 = .ok (.baload, 1) := dk_51 (dk_at dksX7_layFar_1 4 rfl rfl)
theorem dX7_layFar_29 : decode cX7_layFar 29 = .ok (.ifCond .ne 4, 3) := dk_154 0 4 (dk_at dksX7_layFar_1 5 rfl rfl)
theorem dX7_layFar_32 : decode cX7_layFar 32 = .ok (.return_, 1) := dk_177 (dk_at dksX7_layFar_1 8 rfl rfl)
theorem dX7_layFar_33 : decode cX7_layFar 33 = .ok (.aload_n 1, 1) := dk_43 (dk_at dksX7_layFar_1 9 rfl rfl)
theorem dX7_layFar_34 : decode cX7_layFar 34 = .ok (.iload_n 2, 1) := dk_28 (dk_at dksX7_layFar_1 10 rfl rfl)
theorem dX7_layFar_35 : decode cX7_layFar 35 = .ok (.iconst 0, 1) := dk_3 (dk_at dksX7_layFar_1 11 rfl rfl)
theorem dX7_layFar_36 : decode cX7_layFar 36 = .ok (.iastore, 1) := dk_79 (dk_at dksX7_layFar_1 12 rfl rfl)
theorem dX7_layFar_37 : decode cX7_layFar 37 = .ok (.iconst 0, 1) := dk_3 (dk_at dksX7_layFar_1 13 rfl rfl)
theorem dX7_layFar_38 : decode cX7_layFar 38 = .ok (.istore 4, 2) := dk_54 4 (dk_at dksX7_layFar_1 14 rfl rfl)
theorem dX7_layFar_40 : decode cX7_layFar 40 = .ok (.iload 4, 2) := dk_21 4 (dk_at dksX7_layFar_1 16 rfl rfl)
theorem dX7_layFar_42 : decode cX7_layFar 42 = .ok (.iconst 3, 1) := dk_6 (dk_at dksX7_layFar_1 18 rfl rfl)
theorem dX7_layFar_43 : decode cX7_layFar 43 = .ok (.if_icmp .ge 105, 3) := dk_162 0 105 (dk_at dksX7_layFar_1 19 rfl rfl)
theorem dX7_layFar_46 : decode cX7_layFar 46 = .ok (.iconst 0, 1) := dk_3 (dk_at dksX7_layFar_1 22 rfl rfl)
theorem dX7_layFar_47 : decode cX7_layFar 47 = .ok (.istore 5, 2) := dk_54 5 (dk_at dksX7_layFar_2 0 rfl rfl)
theorem dX7_layFar_49 : decode cX7_layFar 49 = .ok (.iload 5, 2) := dk_21 5 (dk_at dksX7_layFar_2 2 rfl rfl)
theorem dX7_layFar_51 : decode cX7_layFar 51 = .ok (.aload_n 0, 1) := dk_42 (dk_at dksX7_layFar_2 4 rfl rfl)
theorem dX7_layFar_52 : decode cX7_layFar 52 = .ok (.invokevirtual 96, 3) := dk_182 0 96 (dk_at dksX7_layFar_2 5 rfl rfl)
theorem dX7_layFar_55 : decode cX7_layFar 55 = .ok (.if_icmp .ge 87, 3) := dk_162 0 87 (dk_at dksX7_layFar_2 8 rfl rfl)
theorem dX7_layFar_58 : decode cX7_layFar 58 = .ok (.aload_n 1, 1) := dk_43 (dk_at dksX7_layFar_2 11 rfl rfl)
theorem dX7_layFar_59 : decode cX7_layFar 59 = .ok (.iload 5, 2) := dk_21 5 (dk_at dksX7_layFar_2 12 rfl rfl)
theorem dX7_layFar_61 : decode cX7_layFar 61 = .ok (.iaload, 1) := dk_46 (dk_at dksX7_layFar_2 14 rfl rfl)
theorem dX7_layFar_62 : decode cX7_layFar 62 = .ok (.iload 4, 2) := dk_21 4 (dk_at dksX7_layFar_2 15 rfl rfl)
theorem dX7_layFar_64 : decode cX7_layFar 64 = .ok (.if_icmp .eq 6, 3) := dk_159 0 6 (dk_at dksX7_layFar_2 17 rfl rfl)
theorem dX7_layFar_67 : decode cX7_layFar 67 = .ok (.goto 69, 3) := dk_167 0 69 (dk_at dksX7_layFar_2 20 rfl rfl)
theorem dX7_layFar_70 : decode cX7_layFar 70 = .ok (.iconst 0, 1) := dk_3 (dk_at dksX7_layFar_2 23 rfl rfl)
theorem dX7_layFar_71 : decode cX7_layFar 71 = .ok (.istore 6, 2) := dk_54 6 (dk_at dksX7_layFar_3 0 rfl rfl)
theorem dX7_layFar_73 : decode cX7_layFar 73 = .ok (.iload 6, 2) := dk_21 6 (dk_at dksX7_layFar_3 2 rfl rfl)
theorem dX7_layFar_75 : decode cX7_layFar 75 = .ok (.aload_n 0, 1) := dk_42 (dk_at dksX7_layFar_3 4 rfl rfl)
theorem dX7_layFar_76 : decode cX7_layFar 76 = .ok (.invokevirtual 84, 3) := dk_182 0 84 (dk_at dksX7_layFar_3 5 rfl rfl)
theorem dX7_layFar_79 : decode cX7_layFar 79 = .ok (.if_icmp .ge 57, 3) := dk_162 0 57 (dk_at dksX7_layFar_3 8 rfl rfl)
theorem dX7_layFar_82 : decode cX7_layFar 82 = .ok (.iload_n 3, 1) := dk_29 (dk_at dksX7_layFar_3 11 rfl rfl)
theorem dX7_layFar_83 : decode cX7_layFar 83 = .ok (.iload 6, 2) := dk_21 6 (dk_at dksX7_layFar_3 12 rfl rfl)
theorem dX7_layFar_85 : decode cX7_layFar 85 = .ok (.invokestatic 288, 3) := dk_184 1 32 (dk_at dksX7_layFar_3 14 rfl rfl)
theorem dX7_layFar_88 : decode cX7_layFar 88 = .ok (.ifCond .ne 42, 3) := dk_154 0 42 (dk_at dksX7_layFar_3 17 rfl rfl)
theorem dX7_layFar_91 : decode cX7_layFar 91 = .ok (.aload_n 0, 1) := dk_42 (dk_at dksX7_layFar_3 20 rfl rfl)
theorem dX7_layFar_92 : decode cX7_layFar 92 = .ok (.iload 6, 2) := dk_21 6 (dk_at dksX7_layFar_3 21 rfl rfl)
theorem dX7_layFar_94 : decode cX7_layFar 94 = .ok (.iload 5, 2) := dk_21 5 (dk_at dksX7_layFar_4 0 rfl rfl)
theorem dX7_layFar_96 : decode cX7_layFar 96 = .ok (.invokevirtual 325, 3) := dk_182 1 69 (dk_at dksX7_layFar_4 2 rfl rfl)
theorem dX7_layFar_99 : decode cX7_layFar 99 = .ok (.iconst (-1), 1) := dk_2 (dk_at dksX7_layFar_4 5 rfl rfl)
theorem dX7_layFar_100 : decode cX7_layFar 100 = .ok (.if_icmp .eq 30, 3) := dk_159 0 30 (dk_at dksX7_layFar_4 6 rfl rfl)
theorem dX7_layFar_103 : decode cX7_layFar 103 = .ok (.aload_n 1, 1) := dk_43 (dk_at dksX7_layFar_4 9 rfl rfl)
theorem dX7_layFar_104 : decode cX7_layFar 104 = .ok (.aload_n 0, 1) := dk_42 (dk_at dksX7_layFar_4 10 rfl rfl)
theorem dX7_layFar_105 : decode cX7_layFar 105 = .ok (.iload 6, 2) := dk_21 6 (dk_at dksX7_layFar_4 11 rfl rfl)
theorem dX7_layFar_107 : decode cX7_layFar 107 = .ok (.iload 5, 2) := dk_21 5 (dk_at dksX7_layFar_4 13 rfl rfl)
theorem dX7_layFar_109 : decode cX7_layFar 109 = .ok (.invokevirtual 325, 3) := dk_182 1 69 (dk_at dksX7_layFar_4 15 rfl rfl)
theorem dX7_layFar_112 : decode cX7_layFar 112 = .ok (.aload_n 1, 1) := dk_43 (dk_at dksX7_layFar_4 18 rfl rfl)
theorem dX7_layFar_113 : decode cX7_layFar 113 = .ok (.aload_n 0, 1) := dk_42 (dk_at dksX7_layFar_4 19 rfl rfl)
theorem dX7_layFar_114 : decode cX7_layFar 114 = .ok (.iload 6, 2) := dk_21 6 (dk_at dksX7_layFar_4 20 rfl rfl)
theorem dX7_layFar_116 : decode cX7_layFar 116 = .ok (.iload 5, 2) := dk_21 5 (dk_at dksX7_layFar_4 22 rfl rfl)
theorem dX7_layFar_118 : decode cX7_layFar 118 = .ok (.invokevirtual 325, 3) := dk_182 1 69 (dk_at dksX7_layFar_5 0 rfl rfl)
theorem dX7_layFar_121 : decode cX7_layFar 121 = .ok (.iaload, 1) := dk_46 (dk_at dksX7_layFar_5 3 rfl rfl)
theorem dX7_layFar_122 : decode cX7_layFar 122 = .ok (.iload 4, 2) := dk_21 4 (dk_at dksX7_layFar_5 4 rfl rfl)
theorem dX7_layFar_124 : decode cX7_layFar 124 = .ok (.iconst 1, 1) := dk_4 (dk_at dksX7_layFar_5 6 rfl rfl)
theorem dX7_layFar_125 : decode cX7_layFar 125 = .ok (.iadd, 1) := dk_96 (dk_at dksX7_layFar_5 7 rfl rfl)
theorem dX7_layFar_126 : decode cX7_layFar 126 = .ok (.invokestatic 130, 3) := dk_184 0 130 (dk_at dksX7_layFar_5 8 rfl rfl)
theorem dX7_layFar_129 : decode cX7_layFar 129 = .ok (.iastore, 1) := dk_79 (dk_at dksX7_layFar_5 11 rfl rfl)
theorem dX7_layFar_130 : decode cX7_layFar 130 = .ok (.iinc 6 1, 3) := dk_132 6 1 (dk_at dksX7_layFar_5 12 rfl rfl)
theorem dX7_layFar_133 : decode cX7_layFar 133 = .ok (.goto (-60), 3) := dk_167 255 196 (dk_at dksX7_layFar_5 15 rfl rfl)
theorem dX7_layFar_136 : decode cX7_layFar 136 = .ok (.iinc 5 1, 3) := dk_132 5 1 (dk_at dksX7_layFar_5 18 rfl rfl)
theorem dX7_layFar_139 : decode cX7_layFar 139 = .ok (.goto (-90), 3) := dk_167 255 166 (dk_at dksX7_layFar_5 21 rfl rfl)
theorem dX7_layFar_142 : decode cX7_layFar 142 = .ok (.iinc 4 1, 3) := dk_132 4 1 (dk_at dksX7_layFar_6 0 rfl rfl)
theorem dX7_layFar_145 : decode cX7_layFar 145 = .ok (.goto (-105), 3) := dk_167 255 151 (dk_at dksX7_layFar_6 3 rfl rfl)
theorem dX7_layFar_148 : decode cX7_layFar 148 = .ok (.return_, 1) := dk_177 (dk_at dksX7_layFar_6 6 rfl rfl)
abbrev cX7_isDepth : ByteArray := prog_22_method_17_code
def yX7_isDepth : MethodName := ⟨RX7, "isDepth", "(I)Z"⟩
def dkwX7_isDepth_0 : List UInt8 := [26, 133, 9, 20, 0, 90, 184, 0, 76, 172]
abbrev dktX7_isDepth_0 : List UInt8 := dkwX7_isDepth_0 ++ []
theorem dksX7_isDepth_0 : cX7_isDepth.data.toList.drop 0 = dktX7_isDepth_0 := by decide +kernel
theorem dX7_isDepth_0 : decode cX7_isDepth 0 = .ok (.iload_n 0, 1) := dk_26 (dk_at dksX7_isDepth_0 0 rfl rfl)
theorem dX7_isDepth_1 : decode cX7_isDepth 1 = .ok (.i2l, 1) := dk_133 (dk_at dksX7_isDepth_0 1 rfl rfl)
theorem dX7_isDepth_2 : decode cX7_isDepth 2 = .ok (.lconst 0, 1) := dk_9 (dk_at dksX7_isDepth_0 2 rfl rfl)
theorem dX7_isDepth_3 : decode cX7_isDepth 3 = .ok (.ldc2_w 90, 3) := dk_20 0 90 (dk_at dksX7_isDepth_0 3 rfl rfl)
theorem dX7_isDepth_6 : decode cX7_isDepth 6 = .ok (.invokestatic 76, 3) := dk_184 0 76 (dk_at dksX7_isDepth_0 6 rfl rfl)
theorem dX7_isDepth_9 : decode cX7_isDepth 9 = .ok (.ireturn, 1) := dk_172 (dk_at dksX7_isDepth_0 9 rfl rfl)
abbrev cX7_within : ByteArray := prog_22_method_91_code
def yX7_within : MethodName := ⟨RX7, "within", "([II)I"⟩
def dkwX7_within_1 : List UInt8 := [61, 132, 3, 1, 167, 255, 232, 28, 172]
abbrev dktX7_within_1 : List UInt8 := dkwX7_within_1 ++ []
def dkwX7_within_0 : List UInt8 := [3, 61, 3, 62, 29, 16, 64, 162, 0, 24, 28, 42, 29, 46, 27, 163, 0, 7, 4, 167, 0, 4, 3, 96]
abbrev dktX7_within_0 : List UInt8 := dkwX7_within_0 ++ dktX7_within_1
theorem dksX7_within_0 : cX7_within.data.toList.drop 0 = dktX7_within_0 := by decide +kernel
theorem dksX7_within_1 : cX7_within.data.toList.drop 24 = dktX7_within_1 := dk_seg dksX7_within_0 24 rfl rfl
theorem dX7_within_0 : decode cX7_within 0 = .ok (.iconst 0, 1) := dk_3 (dk_at dksX7_within_0 0 rfl rfl)
theorem dX7_within_1 : decode cX7_within 1 = .ok (.istore_n 2, 1) := dk_61 (dk_at dksX7_within_0 1 rfl rfl)
theorem dX7_within_2 : decode cX7_within 2 = .ok (.iconst 0, 1) := dk_3 (dk_at dksX7_within_0 2 rfl rfl)
theorem dX7_within_3 : decode cX7_within 3 = .ok (.istore_n 3, 1) := dk_62 (dk_at dksX7_within_0 3 rfl rfl)
theorem dX7_within_4 : decode cX7_within 4 = .ok (.iload_n 3, 1) := dk_29 (dk_at dksX7_within_0 4 rfl rfl)
theorem dX7_within_5 : decode cX7_within 5 = .ok (.bipush 64, 2) := dk_16 64 (dk_at dksX7_within_0 5 rfl rfl)
theorem dX7_within_7 : decode cX7_within 7 = .ok (.if_icmp .ge 24, 3) := dk_162 0 24 (dk_at dksX7_within_0 7 rfl rfl)
theorem dX7_within_10 : decode cX7_within 10 = .ok (.iload_n 2, 1) := dk_28 (dk_at dksX7_within_0 10 rfl rfl)
theorem dX7_within_11 : decode cX7_within 11 = .ok (.aload_n 0, 1) := dk_42 (dk_at dksX7_within_0 11 rfl rfl)
theorem dX7_within_12 : decode cX7_within 12 = .ok (.iload_n 3, 1) := dk_29 (dk_at dksX7_within_0 12 rfl rfl)
theorem dX7_within_13 : decode cX7_within 13 = .ok (.iaload, 1) := dk_46 (dk_at dksX7_within_0 13 rfl rfl)
theorem dX7_within_14 : decode cX7_within 14 = .ok (.iload_n 1, 1) := dk_27 (dk_at dksX7_within_0 14 rfl rfl)
theorem dX7_within_15 : decode cX7_within 15 = .ok (.if_icmp .gt 7, 3) := dk_163 0 7 (dk_at dksX7_within_0 15 rfl rfl)
theorem dX7_within_18 : decode cX7_within 18 = .ok (.iconst 1, 1) := dk_4 (dk_at dksX7_within_0 18 rfl rfl)
theorem dX7_within_19 : decode cX7_within 19 = .ok (.goto 4, 3) := dk_167 0 4 (dk_at dksX7_within_0 19 rfl rfl)
theorem dX7_within_22 : decode cX7_within 22 = .ok (.iconst 0, 1) := dk_3 (dk_at dksX7_within_0 22 rfl rfl)
theorem dX7_within_23 : decode cX7_within 23 = .ok (.iadd, 1) := dk_96 (dk_at dksX7_within_0 23 rfl rfl)
theorem dX7_within_24 : decode cX7_within 24 = .ok (.istore_n 2, 1) := dk_61 (dk_at dksX7_within_1 0 rfl rfl)
theorem dX7_within_25 : decode cX7_within 25 = .ok (.iinc 3 1, 3) := dk_132 3 1 (dk_at dksX7_within_1 1 rfl rfl)
theorem dX7_within_28 : decode cX7_within 28 = .ok (.goto (-24), 3) := dk_167 255 232 (dk_at dksX7_within_1 4 rfl rfl)
theorem dX7_within_31 : decode cX7_within 31 = .ok (.iload_n 2, 1) := dk_28 (dk_at dksX7_within_1 7 rfl rfl)
theorem dX7_within_32 : decode cX7_within 32 = .ok (.ireturn, 1) := dk_172 (dk_at dksX7_within_1 8 rfl rfl)
abbrev cX7_orNone : ByteArray := prog_22_method_92_code
def yX7_orNone : MethodName := ⟨RX7, "orNone", "(II)I"⟩
def dkwX7_orNone_0 : List UInt8 := [42, 180, 0, 37, 27, 51, 153, 0, 7, 28, 167, 0, 4, 2, 172]
abbrev dktX7_orNone_0 : List UInt8 := dkwX7_orNone_0 ++ []
theorem dksX7_orNone_0 : cX7_orNone.data.toList.drop 0 = dktX7_orNone_0 := by decide +kernel
theorem dX7_orNone_0 : decode cX7_orNone 0 = .ok (.aload_n 0, 1) := dk_42 (dk_at dksX7_orNone_0 0 rfl rfl)
theorem dX7_orNone_1 : decode cX7_orNone 1 = .ok (.getfield 37, 3) := dk_180 0 37 (dk_at dksX7_orNone_0 1 rfl rfl)
theorem dX7_orNone_4 : decode cX7_orNone 4 = .ok (.iload_n 1, 1) := dk_27 (dk_at dksX7_orNone_0 4 rfl rfl)
theorem dX7_orNone_5 : decode cX7_orNone 5 = .ok (.baload, 1) := dk_51 (dk_at dksX7_orNone_0 5 rfl rfl)
theorem dX7_orNone_6 : decode cX7_orNone 6 = .ok (.ifCond .eq 7, 3) := dk_153 0 7 (dk_at dksX7_orNone_0 6 rfl rfl)
theorem dX7_orNone_9 : decode cX7_orNone 9 = .ok (.iload_n 2, 1) := dk_28 (dk_at dksX7_orNone_0 9 rfl rfl)
theorem dX7_orNone_10 : decode cX7_orNone 10 = .ok (.goto 4, 3) := dk_167 0 4 (dk_at dksX7_orNone_0 10 rfl rfl)
theorem dX7_orNone_13 : decode cX7_orNone 13 = .ok (.iconst (-1), 1) := dk_2 (dk_at dksX7_orNone_0 13 rfl rfl)
theorem dX7_orNone_14 : decode cX7_orNone 14 = .ok (.ireturn, 1) := dk_172 (dk_at dksX7_orNone_0 14 rfl rfl)
abbrev cX7_freely : ByteArray := prog_22_method_95_code
def yX7_freely : MethodName := ⟨RX7, "freely", "(II)I"⟩
def dkwX7_freely_1 : List UInt8 := [184, 1, 104, 182, 1, 108, 167, 0, 5, 16, 254, 172]
abbrev dktX7_freely_1 : List UInt8 := dkwX7_freely_1 ++ []
def dkwX7_freely_0 : List UInt8 := [42, 27, 182, 1, 98, 153, 0, 26, 28, 184, 1, 101, 153, 0, 19, 42, 27, 42, 180, 0, 46, 28]
abbrev dktX7_freely_0 : List UInt8 := dkwX7_freely_0 ++ dktX7_freely_1
theorem dksX7_freely_0 : cX7_freely.data.toList.drop 0 = dktX7_freely_0 := by decide +kernel
theorem dksX7_freely_1 : cX7_freely.data.toList.drop 22 = dktX7_freely_1 := dk_seg dksX7_freely_0 22 rfl rfl
theorem dX7_freely_0 : decode cX7_freely 0 = .ok (.aload_n 0, 1) := dk_42 (dk_at dksX7_freely_0 0 rfl rfl)
theorem dX7_freely_1 : decode cX7_freely 1 = .ok (.iload_n 1, 1) := dk_27 (dk_at dksX7_freely_0 1 rfl rfl)
theorem dX7_freely_2 : decode cX7_freely 2 = .ok (.invokevirtual 354, 3) := dk_182 1 98 (dk_at dksX7_freely_0 2 rfl rfl)
theorem dX7_freely_5 : decode cX7_freely 5 = .ok (.ifCond .eq 26, 3) := dk_153 0 26 (dk_at dksX7_freely_0 5 rfl rfl)
theorem dX7_freely_8 : decode cX7_freely 8 = .ok (.iload_n 2, 1) := dk_28 (dk_at dksX7_freely_0 8 rfl rfl)
theorem dX7_freely_9 : decode cX7_freely 9 = .ok (.invokestatic 357, 3) := dk_184 1 101 (dk_at dksX7_freely_0 9 rfl rfl)
theorem dX7_freely_12 : decode cX7_freely 12 = .ok (.ifCond .eq 19, 3) := dk_153 0 19 (dk_at dksX7_freely_0 12 rfl rfl)
theorem dX7_freely_15 : decode cX7_freely 15 = .ok (.aload_n 0, 1) := dk_42 (dk_at dksX7_freely_0 15 rfl rfl)
theorem dX7_freely_16 : decode cX7_freely 16 = .ok (.iload_n 1, 1) := dk_27 (dk_at dksX7_freely_0 16 rfl rfl)
theorem dX7_freely_17 : decode cX7_freely 17 = .ok (.aload_n 0, 1) := dk_42 (dk_at dksX7_freely_0 17 rfl rfl)
theorem dX7_freely_18 : decode cX7_freely 18 = .ok (.getfield 46, 3) := dk_180 0 46 (dk_at dksX7_freely_0 18 rfl rfl)
theorem dX7_freely_21 : decode cX7_freely 21 = .ok (.iload_n 2, 1) := dk_28 (dk_at dksX7_freely_0 21 rfl rfl)
theorem dX7_freely_22 : decode cX7_freely 22 = .ok (.invokestatic 360, 3) := dk_184 1 104 (dk_at dksX7_freely_1 0 rfl rfl)
theorem dX7_freely_25 : decode cX7_freely 25 = .ok (.invokevirtual 364, 3) := dk_182 1 108 (dk_at dksX7_freely_1 3 rfl rfl)
theorem dX7_freely_28 : decode cX7_freely 28 = .ok (.goto 5, 3) := dk_167 0 5 (dk_at dksX7_freely_1 6 rfl rfl)
theorem dX7_freely_31 : decode cX7_freely 31 = .ok (.bipush (-2), 2) := dk_16 254 (dk_at dksX7_freely_1 9 rfl rfl)
theorem dX7_freely_33 : decode cX7_freely 33 = .ok (.ireturn, 1) := dk_172 (dk_at dksX7_freely_1 11 rfl rfl)
abbrev cX7_far : ByteArray := prog_22_method_96_code
def yX7_far : MethodName := ⟨RX7, "far", "(II)I"⟩
def dkwX7_far_1 : List UInt8 := [28, 46, 19, 1, 68, 160, 0, 7, 2, 167, 0, 9, 42, 180, 0, 43, 28, 46, 172]
abbrev dktX7_far_1 : List UInt8 := dkwX7_far_1 ++ []
def dkwX7_far_0 : List UInt8 := [42, 27, 182, 1, 98, 153, 0, 12, 42, 28, 133, 182, 1, 58, 154, 0, 6, 16, 254, 172, 42, 180, 0, 43]
abbrev dktX7_far_0 : List UInt8 := dkwX7_far_0 ++ dktX7_far_1
theorem dksX7_far_0 : cX7_far.data.toList.drop 0 = dktX7_far_0 := by decide +kernel
theorem dksX7_far_1 : cX7_far.data.toList.drop 24 = dktX7_far_1 := dk_seg dksX7_far_0 24 rfl rfl
theorem dX7_far_0 : decode cX7_far 0 = .ok (.aload_n 0, 1) := dk_42 (dk_at dksX7_far_0 0 rfl rfl)
theorem dX7_far_1 : decode cX7_far 1 = .ok (.iload_n 1, 1) := dk_27 (dk_at dksX7_far_0 1 rfl rfl)
theorem dX7_far_2 : decode cX7_far 2 = .ok (.invokevirtual 354, 3) := dk_182 1 98 (dk_at dksX7_far_0 2 rfl rfl)
theorem dX7_far_5 : decode cX7_far 5 = .ok (.ifCond .eq 12, 3) := dk_153 0 12 (dk_at dksX7_far_0 5 rfl rfl)
theorem dX7_far_8 : decode cX7_far 8 = .ok (.aload_n 0, 1) := dk_42 (dk_at dksX7_far_0 8 rfl rfl)
theorem dX7_far_9 : decode cX7_far 9 = .ok (.iload_n 2, 1) := dk_28 (dk_at dksX7_far_0 9 rfl rfl)
theorem dX7_far_10 : decode cX7_far 10 = .ok (.i2l, 1) := dk_133 (dk_at dksX7_far_0 10 rfl rfl)
theorem dX7_far_11 : decode cX7_far 11 = .ok (.invokevirtual 314, 3) := dk_182 1 58 (dk_at dksX7_far_0 11 rfl rfl)
theorem dX7_far_14 : decode cX7_far 14 = .ok (.ifCond .ne 6, 3) := dk_154 0 6 (dk_at dksX7_far_0 14 rfl rfl)
theorem dX7_far_17 : decode cX7_far 17 = .ok (.bipush (-2), 2) := dk_16 254 (dk_at dksX7_far_0 17 rfl rfl)
theorem dX7_far_19 : decode cX7_far 19 = .ok (.ireturn, 1) := dk_172 (dk_at dksX7_far_0 19 rfl rfl)
theorem dX7_far_20 : decode cX7_far 20 = .ok (.aload_n 0, 1) := dk_42 (dk_at dksX7_far_0 20 rfl rfl)
theorem dX7_far_21 : decode cX7_far 21 = .ok (.getfield 43, 3) := dk_180 0 43 (dk_at dksX7_far_0 21 rfl rfl)
theorem dX7_far_24 : decode cX7_far 24 = .ok (.iload_n 2, 1) := dk_28 (dk_at dksX7_far_1 0 rfl rfl)
theorem dX7_far_25 : decode cX7_far 25 = .ok (.iaload, 1) := dk_46 (dk_at dksX7_far_1 1 rfl rfl)
theorem dX7_far_26 : decode cX7_far 26 = .ok (.ldc_w 324, 3) := dk_19 1 68 (dk_at dksX7_far_1 2 rfl rfl)
theorem dX7_far_29 : decode cX7_far 29 = .ok (.if_icmp .ne 7, 3) := dk_160 0 7 (dk_at dksX7_far_1 5 rfl rfl)
theorem dX7_far_32 : decode cX7_far 32 = .ok (.iconst (-1), 1) := dk_2 (dk_at dksX7_far_1 8 rfl rfl)
theorem dX7_far_33 : decode cX7_far 33 = .ok (.goto 9, 3) := dk_167 0 9 (dk_at dksX7_far_1 9 rfl rfl)
theorem dX7_far_36 : decode cX7_far 36 = .ok (.aload_n 0, 1) := dk_42 (dk_at dksX7_far_1 12 rfl rfl)
theorem dX7_far_37 : decode cX7_far 37 = .ok (.getfield 43, 3) := dk_180 0 43 (dk_at dksX7_far_1 13 rfl rfl)
theorem dX7_far_40 : decode cX7_far 40 = .ok (.iload_n 2, 1) := dk_28 (dk_at dksX7_far_1 16 rfl rfl)
theorem dX7_far_41 : decode cX7_far 41 = .ok (.iaload, 1) := dk_46 (dk_at dksX7_far_1 17 rfl rfl)
theorem dX7_far_42 : decode cX7_far 42 = .ok (.ireturn, 1) := dk_172 (dk_at dksX7_far_1 18 rfl rfl)
abbrev cX7_step : ByteArray := prog_22_method_97_code
def yX7_step : MethodName := ⟨RX7, "step", "(II)I"⟩
def dkwX7_step_4 : List UInt8 := [180, 0, 43, 28, 46, 29, 4, 100, 160, 0, 6, 21, 4, 172, 132, 4, 1, 167, 255, 199, 2, 172]
abbrev dktX7_step_4 : List UInt8 := dkwX7_step_4 ++ []
def dkwX7_step_3 : List UInt8 := [160, 0, 6, 167, 0, 34, 42, 42, 180, 0, 43, 42, 21, 4, 27, 182, 1, 69, 3, 182, 1, 91, 42]
abbrev dktX7_step_3 : List UInt8 := dkwX7_step_3 ++ dktX7_step_4
def dkwX7_step_2 : List UInt8 := [46, 62, 3, 54, 4, 21, 4, 42, 182, 0, 84, 162, 0, 54, 42, 21, 4, 27, 182, 1, 69, 2]
abbrev dktX7_step_2 : List UInt8 := dkwX7_step_2 ++ dktX7_step_3
def dkwX7_step_1 : List UInt8 := [28, 46, 19, 1, 68, 159, 0, 12, 42, 180, 0, 43, 28, 46, 154, 0, 5, 2, 172, 42, 180, 0, 43, 28]
abbrev dktX7_step_1 : List UInt8 := dkwX7_step_1 ++ dktX7_step_2
def dkwX7_step_0 : List UInt8 := [42, 27, 182, 1, 98, 153, 0, 12, 42, 28, 133, 182, 1, 58, 154, 0, 6, 16, 254, 172, 42, 180, 0, 43]
abbrev dktX7_step_0 : List UInt8 := dkwX7_step_0 ++ dktX7_step_1
theorem dksX7_step_0 : cX7_step.data.toList.drop 0 = dktX7_step_0 := by decide +kernel
theorem dksX7_step_1 : cX7_step.data.toList.drop 24 = dktX7_step_1 := dk_seg dksX7_step_0 24 rfl rfl
theorem dksX7_step_2 : cX7_step.data.toList.drop 48 = dktX7_step_2 := dk_seg dksX7_step_1 24 rfl rfl
theorem dksX7_step_3 : cX7_step.data.toList.drop 70 = dktX7_step_3 := dk_seg dksX7_step_2 22 rfl rfl
theorem dksX7_step_4 : cX7_step.data.toList.drop 93 = dktX7_step_4 := dk_seg dksX7_step_3 23 rfl rfl
theorem dX7_step_0 : decode cX7_step 0 = .ok (.aload_n 0, 1) := dk_42 (dk_at dksX7_step_0 0 rfl rfl)
theorem dX7_step_1 : decode cX7_step 1 = .ok (.iload_n 1, 1) := dk_27 (dk_at dksX7_step_0 1 rfl rfl)
theorem dX7_step_2 : decode cX7_step 2 = .ok (.invokevirtual 354, 3) := dk_182 1 98 (dk_at dksX7_step_0 2 rfl rfl)
theorem dX7_step_5 : decode cX7_step 5 = .ok (.ifCond .eq 12, 3) := dk_153 0 12 (dk_at dksX7_step_0 5 rfl rfl)
theorem dX7_step_8 : decode cX7_step 8 = .ok (.aload_n 0, 1) := dk_42 (dk_at dksX7_step_0 8 rfl rfl)
theorem dX7_step_9 : decode cX7_step 9 = .ok (.iload_n 2, 1) := dk_28 (dk_at dksX7_step_0 9 rfl rfl)
theorem dX7_step_10 : decode cX7_step 10 = .ok (.i2l, 1) := dk_133 (dk_at dksX7_step_0 10 rfl rfl)
theorem dX7_step_11 : decode cX7_step 11 = .ok (.invokevirtual 314, 3) := dk_182 1 58 (dk_at dksX7_step_0 11 rfl rfl)
theorem dX7_step_14 : decode cX7_step 14 = .ok (.ifCond .ne 6, 3) := dk_154 0 6 (dk_at dksX7_step_0 14 rfl rfl)
theorem dX7_step_17 : decode cX7_step 17 = .ok (.bipush (-2), 2) := dk_16 254 (dk_at dksX7_step_0 17 rfl rfl)
theorem dX7_step_19 : decode cX7_step 19 = .ok (.ireturn, 1) := dk_172 (dk_at dksX7_step_0 19 rfl rfl)
theorem dX7_step_20 : decode cX7_step 20 = .ok (.aload_n 0, 1) := dk_42 (dk_at dksX7_step_0 20 rfl rfl)
theorem dX7_step_21 : decode cX7_step 21 = .ok (.getfield 43, 3) := dk_180 0 43 (dk_at dksX7_step_0 21 rfl rfl)
theorem dX7_step_24 : decode cX7_step 24 = .ok (.iload_n 2, 1) := dk_28 (dk_at dksX7_step_1 0 rfl rfl)
theorem dX7_step_25 : decode cX7_step 25 = .ok (.iaload, 1) := dk_46 (dk_at dksX7_step_1 1 rfl rfl)
theorem dX7_step_26 : decode cX7_step 26 = .ok (.ldc_w 324, 3) := dk_19 1 68 (dk_at dksX7_step_1 2 rfl rfl)
theorem dX7_step_29 : decode cX7_step 29 = .ok (.if_icmp .eq 12, 3) := dk_159 0 12 (dk_at dksX7_step_1 5 rfl rfl)
theorem dX7_step_32 : decode cX7_step 32 = .ok (.aload_n 0, 1) := dk_42 (dk_at dksX7_step_1 8 rfl rfl)
theorem dX7_step_33 : decode cX7_step 33 = .ok (.getfield 43, 3) := dk_180 0 43 (dk_at dksX7_step_1 9 rfl rfl)
theorem dX7_step_36 : decode cX7_step 36 = .ok (.iload_n 2, 1) := dk_28 (dk_at dksX7_step_1 12 rfl rfl)
theorem dX7_step_37 : decode cX7_step 37 = .ok (.iaload, 1) := dk_46 (dk_at dksX7_step_1 13 rfl rfl)
theorem dX7_step_38 : decode cX7_step 38 = .ok (.ifCond .ne 5, 3) := dk_154 0 5 (dk_at dksX7_step_1 14 rfl rfl)
theorem dX7_step_41 : decode cX7_step 41 = .ok (.iconst (-1), 1) := dk_2 (dk_at dksX7_step_1 17 rfl rfl)
theorem dX7_step_42 : decode cX7_step 42 = .ok (.ireturn, 1) := dk_172 (dk_at dksX7_step_1 18 rfl rfl)
theorem dX7_step_43 : decode cX7_step 43 = .ok (.aload_n 0, 1) := dk_42 (dk_at dksX7_step_1 19 rfl rfl)
theorem dX7_step_44 : decode cX7_step 44 = .ok (.getfield 43, 3) := dk_180 0 43 (dk_at dksX7_step_1 20 rfl rfl)
theorem dX7_step_47 : decode cX7_step 47 = .ok (.iload_n 2, 1) := dk_28 (dk_at dksX7_step_1 23 rfl rfl)
theorem dX7_step_48 : decode cX7_step 48 = .ok (.iaload, 1) := dk_46 (dk_at dksX7_step_2 0 rfl rfl)
theorem dX7_step_49 : decode cX7_step 49 = .ok (.istore_n 3, 1) := dk_62 (dk_at dksX7_step_2 1 rfl rfl)
theorem dX7_step_50 : decode cX7_step 50 = .ok (.iconst 0, 1) := dk_3 (dk_at dksX7_step_2 2 rfl rfl)
theorem dX7_step_51 : decode cX7_step 51 = .ok (.istore 4, 2) := dk_54 4 (dk_at dksX7_step_2 3 rfl rfl)
theorem dX7_step_53 : decode cX7_step 53 = .ok (.iload 4, 2) := dk_21 4 (dk_at dksX7_step_2 5 rfl rfl)
theorem dX7_step_55 : decode cX7_step 55 = .ok (.aload_n 0, 1) := dk_42 (dk_at dksX7_step_2 7 rfl rfl)
theorem dX7_step_56 : decode cX7_step 56 = .ok (.invokevirtual 84, 3) := dk_182 0 84 (dk_at dksX7_step_2 8 rfl rfl)
theorem dX7_step_59 : decode cX7_step 59 = .ok (.if_icmp .ge 54, 3) := dk_162 0 54 (dk_at dksX7_step_2 11 rfl rfl)
theorem dX7_step_62 : decode cX7_step 62 = .ok (.aload_n 0, 1) := dk_42 (dk_at dksX7_step_2 14 rfl rfl)
theorem dX7_step_63 : decode cX7_step 63 = .ok (.iload 4, 2) := dk_21 4 (dk_at dksX7_step_2 15 rfl rfl)
theorem dX7_step_65 : decode cX7_step 65 = .ok (.iload_n 1, 1) := dk_27 (dk_at dksX7_step_2 17 rfl rfl)
theorem dX7_step_66 : decode cX7_step 66 = .ok (.invokevirtual 325, 3) := dk_182 1 69 (dk_at dksX7_step_2 18 rfl rfl)
theorem dX7_step_69 : decode cX7_step 69 = .ok (.iconst (-1), 1) := dk_2 (dk_at dksX7_step_2 21 rfl rfl)
theorem dX7_step_70 : decode cX7_step 70 = .ok (.if_icmp .ne 6, 3) := dk_160 0 6 (dk_at dksX7_step_3 0 rfl rfl)
theorem dX7_step_73 : decode cX7_step 73 = .ok (.goto 34, 3) := dk_167 0 34 (dk_at dksX7_step_3 3 rfl rfl)
theorem dX7_step_76 : decode cX7_step 76 = .ok (.aload_n 0, 1) := dk_42 (dk_at dksX7_step_3 6 rfl rfl)
theorem dX7_step_77 : decode cX7_step 77 = .ok (.aload_n 0, 1) := dk_42 (dk_at dksX7_step_3 7 rfl rfl)
theorem dX7_step_78 : decode cX7_step 78 = .ok (.getfield 43, 3) := dk_180 0 43 (dk_at dksX7_step_3 8 rfl rfl)
theorem dX7_step_81 : decode cX7_step 81 = .ok (.aload_n 0, 1) := dk_42 (dk_at dksX7_step_3 11 rfl rfl)
theorem dX7_step_82 : decode cX7_step 82 = .ok (.iload 4, 2) := dk_21 4 (dk_at dksX7_step_3 12 rfl rfl)
theorem dX7_step_84 : decode cX7_step 84 = .ok (.iload_n 1, 1) := dk_27 (dk_at dksX7_step_3 14 rfl rfl)
theorem dX7_step_85 : decode cX7_step 85 = .ok (.invokevirtual 325, 3) := dk_182 1 69 (dk_at dksX7_step_3 15 rfl rfl)
theorem dX7_step_88 : decode cX7_step 88 = .ok (.iconst 0, 1) := dk_3 (dk_at dksX7_step_3 18 rfl rfl)
theorem dX7_step_89 : decode cX7_step 89 = .ok (.invokevirtual 347, 3) := dk_182 1 91 (dk_at dksX7_step_3 19 rfl rfl)
theorem dX7_step_92 : decode cX7_step 92 = .ok (.aload_n 0, 1) := dk_42 (dk_at dksX7_step_3 22 rfl rfl)
theorem dX7_step_93 : decode cX7_step 93 = .ok (.getfield 43, 3) := dk_180 0 43 (dk_at dksX7_step_4 0 rfl rfl)
theorem dX7_step_96 : decode cX7_step 96 = .ok (.iload_n 2, 1) := dk_28 (dk_at dksX7_step_4 3 rfl rfl)
theorem dX7_step_97 : decode cX7_step 97 = .ok (.iaload, 1) := dk_46 (dk_at dksX7_step_4 4 rfl rfl)
theorem dX7_step_98 : decode cX7_step 98 = .ok (.iload_n 3, 1) := dk_29 (dk_at dksX7_step_4 5 rfl rfl)
theorem dX7_step_99 : decode cX7_step 99 = .ok (.iconst 1, 1) := dk_4 (dk_at dksX7_step_4 6 rfl rfl)
theorem dX7_step_100 : decode cX7_step 100 = .ok (.isub, 1) := dk_100 (dk_at dksX7_step_4 7 rfl rfl)
theorem dX7_step_101 : decode cX7_step 101 = .ok (.if_icmp .ne 6, 3) := dk_160 0 6 (dk_at dksX7_step_4 8 rfl rfl)
theorem dX7_step_104 : decode cX7_step 104 = .ok (.iload 4, 2) := dk_21 4 (dk_at dksX7_step_4 11 rfl rfl)
theorem dX7_step_106 : decode cX7_step 106 = .ok (.ireturn, 1) := dk_172 (dk_at dksX7_step_4 13 rfl rfl)
theorem dX7_step_107 : decode cX7_step 107 = .ok (.iinc 4 1, 3) := dk_132 4 1 (dk_at dksX7_step_4 14 rfl rfl)
theorem dX7_step_110 : decode cX7_step 110 = .ok (.goto (-57), 3) := dk_167 255 199 (dk_at dksX7_step_4 17 rfl rfl)
theorem dX7_step_113 : decode cX7_step 113 = .ok (.iconst (-1), 1) := dk_2 (dk_at dksX7_step_4 20 rfl rfl)
theorem dX7_step_114 : decode cX7_step 114 = .ok (.ireturn, 1) := dk_172 (dk_at dksX7_step_4 21 rfl rfl)
abbrev cX7_asked : ByteArray := prog_22_method_98_code
def yX7_asked : MethodName := ⟨RX7, "asked", "(II)I"⟩
def dkwX7_asked_4 : List UInt8 := [167, 0, 4, 3, 96, 62, 132, 5, 1, 167, 255, 192, 132, 4, 1, 167, 255, 173, 29, 172]
abbrev dktX7_asked_4 : List UInt8 := dkwX7_asked_4 ++ []
def dkwX7_asked_3 : List UInt8 := [180, 0, 46, 21, 4, 46, 28, 164, 0, 18, 42, 180, 0, 46, 21, 5, 46, 28, 164, 0, 7, 4]
abbrev dktX7_asked_3 : List UInt8 := dkwX7_asked_3 ++ dktX7_asked_4
def dkwX7_asked_2 : List UInt8 := [180, 0, 43, 21, 4, 46, 28, 163, 0, 40, 42, 180, 0, 43, 21, 5, 46, 28, 163, 0, 29, 42]
abbrev dktX7_asked_2 : List UInt8 := dkwX7_asked_2 ++ dktX7_asked_3
def dkwX7_asked_1 : List UInt8 := [21, 4, 42, 182, 0, 96, 162, 0, 80, 21, 4, 54, 5, 21, 5, 42, 182, 0, 96, 162, 0, 61, 29, 42]
abbrev dktX7_asked_1 : List UInt8 := dkwX7_asked_1 ++ dktX7_asked_2
def dkwX7_asked_0 : List UInt8 := [42, 27, 182, 1, 98, 153, 0, 10, 28, 184, 1, 101, 154, 0, 6, 16, 254, 172, 3, 62, 3, 54, 4]
abbrev dktX7_asked_0 : List UInt8 := dkwX7_asked_0 ++ dktX7_asked_1
theorem dksX7_asked_0 : cX7_asked.data.toList.drop 0 = dktX7_asked_0 := by decide +kernel
theorem dksX7_asked_1 : cX7_asked.data.toList.drop 23 = dktX7_asked_1 := dk_seg dksX7_asked_0 23 rfl rfl
theorem dksX7_asked_2 : cX7_asked.data.toList.drop 47 = dktX7_asked_2 := dk_seg dksX7_asked_1 24 rfl rfl
theorem dksX7_asked_3 : cX7_asked.data.toList.drop 69 = dktX7_asked_3 := dk_seg dksX7_asked_2 22 rfl rfl
theorem dksX7_asked_4 : cX7_asked.data.toList.drop 91 = dktX7_asked_4 := dk_seg dksX7_asked_3 22 rfl rfl
theorem dX7_asked_0 : decode cX7_asked 0 = .ok (.aload_n 0, 1) := dk_42 (dk_at dksX7_asked_0 0 rfl rfl)
theorem dX7_asked_1 : decode cX7_asked 1 = .ok (.iload_n 1, 1) := dk_27 (dk_at dksX7_asked_0 1 rfl rfl)
theorem dX7_asked_2 : decode cX7_asked 2 = .ok (.invokevirtual 354, 3) := dk_182 1 98 (dk_at dksX7_asked_0 2 rfl rfl)
theorem dX7_asked_5 : decode cX7_asked 5 = .ok (.ifCond .eq 10, 3) := dk_153 0 10 (dk_at dksX7_asked_0 5 rfl rfl)
theorem dX7_asked_8 : decode cX7_asked 8 = .ok (.iload_n 2, 1) := dk_28 (dk_at dksX7_asked_0 8 rfl rfl)
theorem dX7_asked_9 : decode cX7_asked 9 = .ok (.invokestatic 357, 3) := dk_184 1 101 (dk_at dksX7_asked_0 9 rfl rfl)
theorem dX7_asked_12 : decode cX7_asked 12 = .ok (.ifCond .ne 6, 3) := dk_154 0 6 (dk_at dksX7_asked_0 12 rfl rfl)
theorem dX7_asked_15 : decode cX7_asked 15 = .ok (.bipush (-2), 2) := dk_16 254 (dk_at dksX7_asked_0 15 rfl rfl)
theorem dX7_asked_17 : decode cX7_asked 17 = .ok (.ireturn, 1) := dk_172 (dk_at dksX7_asked_0 17 rfl rfl)
theorem dX7_asked_18 : decode cX7_asked 18 = .ok (.iconst 0, 1) := dk_3 (dk_at dksX7_asked_0 18 rfl rfl)
theorem dX7_asked_19 : decode cX7_asked 19 = .ok (.istore_n 3, 1) := dk_62 (dk_at dksX7_asked_0 19 rfl rfl)
theorem dX7_asked_20 : decode cX7_asked 20 = .ok (.iconst 0, 1) := dk_3 (dk_at dksX7_asked_0 20 rfl rfl)
theorem dX7_asked_21 : decode cX7_asked 21 = .ok (.istore 4, 2) := dk_54 4 (dk_at dksX7_asked_0 21 rfl rfl)
theorem dX7_asked_23 : decode cX7_asked 23 = .ok (.iload 4, 2) := dk_21 4 (dk_at dksX7_asked_1 0 rfl rfl)
theorem dX7_asked_25 : decode cX7_asked 25 = .ok (.aload_n 0, 1) := dk_42 (dk_at dksX7_asked_1 2 rfl rfl)
theorem dX7_asked_26 : decode cX7_asked 26 = .ok (.invokevirtual 96, 3) := dk_182 0 96 (dk_at dksX7_asked_1 3 rfl rfl)
theorem dX7_asked_29 : decode cX7_asked 29 = .ok (.if_icmp .ge 80, 3) := dk_162 0 80 (dk_at dksX7_asked_1 6 rfl rfl)
theorem dX7_asked_32 : decode cX7_asked 32 = .ok (.iload 4, 2) := dk_21 4 (dk_at dksX7_asked_1 9 rfl rfl)
theorem dX7_asked_34 : decode cX7_asked 34 = .ok (.istore 5, 2) := dk_54 5 (dk_at dksX7_asked_1 11 rfl rfl)
theorem dX7_asked_36 : decode cX7_asked 36 = .ok (.iload 5, 2) := dk_21 5 (dk_at dksX7_asked_1 13 rfl rfl)
theorem dX7_asked_38 : decode cX7_asked 38 = .ok (.aload_n 0, 1) := dk_42 (dk_at dksX7_asked_1 15 rfl rfl)
theorem dX7_asked_39 : decode cX7_asked 39 = .ok (.invokevirtual 96, 3) := dk_182 0 96 (dk_at dksX7_asked_1 16 rfl rfl)
theorem dX7_asked_42 : decode cX7_asked 42 = .ok (.if_icmp .ge 61, 3) := dk_162 0 61 (dk_at dksX7_asked_1 19 rfl rfl)
theorem dX7_asked_45 : decode cX7_asked 45 = .ok (.iload_n 3, 1) := dk_29 (dk_at dksX7_asked_1 22 rfl rfl)
theorem dX7_asked_46 : decode cX7_asked 46 = .ok (.aload_n 0, 1) := dk_42 (dk_at dksX7_asked_1 23 rfl rfl)
theorem dX7_asked_47 : decode cX7_asked 47 = .ok (.getfield 43, 3) := dk_180 0 43 (dk_at dksX7_asked_2 0 rfl rfl)
theorem dX7_asked_50 : decode cX7_asked 50 = .ok (.iload 4, 2) := dk_21 4 (dk_at dksX7_asked_2 3 rfl rfl)
theorem dX7_asked_52 : decode cX7_asked 52 = .ok (.iaload, 1) := dk_46 (dk_at dksX7_asked_2 5 rfl rfl)
theorem dX7_asked_53 : decode cX7_asked 53 = .ok (.iload_n 2, 1) := dk_28 (dk_at dksX7_asked_2 6 rfl rfl)
theorem dX7_asked_54 : decode cX7_asked 54 = .ok (.if_icmp .gt 40, 3) := dk_163 0 40 (dk_at dksX7_asked_2 7 rfl rfl)
theorem dX7_asked_57 : decode cX7_asked 57 = .ok (.aload_n 0, 1) := dk_42 (dk_at dksX7_asked_2 10 rfl rfl)
theorem dX7_asked_58 : decode cX7_asked 58 = .ok (.getfield 43, 3) := dk_180 0 43 (dk_at dksX7_asked_2 11 rfl rfl)
theorem dX7_asked_61 : decode cX7_asked 61 = .ok (.iload 5, 2) := dk_21 5 (dk_at dksX7_asked_2 14 rfl rfl)
theorem dX7_asked_63 : decode cX7_asked 63 = .ok (.iaload, 1) := dk_46 (dk_at dksX7_asked_2 16 rfl rfl)
theorem dX7_asked_64 : decode cX7_asked 64 = .ok (.iload_n 2, 1) := dk_28 (dk_at dksX7_asked_2 17 rfl rfl)
theorem dX7_asked_65 : decode cX7_asked 65 = .ok (.if_icmp .gt 29, 3) := dk_163 0 29 (dk_at dksX7_asked_2 18 rfl rfl)
theorem dX7_asked_68 : decode cX7_asked 68 = .ok (.aload_n 0, 1) := dk_42 (dk_at dksX7_asked_2 21 rfl rfl)
theorem dX7_asked_69 : decode cX7_asked 69 = .ok (.getfield 46, 3) := dk_180 0 46 (dk_at dksX7_asked_3 0 rfl rfl)
theorem dX7_asked_72 : decode cX7_asked 72 = .ok (.iload 4, 2) := dk_21 4 (dk_at dksX7_asked_3 3 rfl rfl)
theorem dX7_asked_74 : decode cX7_asked 74 = .ok (.iaload, 1) := dk_46 (dk_at dksX7_asked_3 5 rfl rfl)
theorem dX7_asked_75 : decode cX7_asked 75 = .ok (.iload_n 2, 1) := dk_28 (dk_at dksX7_asked_3 6 rfl rfl)
theorem dX7_asked_76 : decode cX7_asked 76 = .ok (.if_icmp .le 18, 3) := dk_164 0 18 (dk_at dksX7_asked_3 7 rfl rfl)
theorem dX7_asked_79 : decode cX7_asked 79 = .ok (.aload_n 0, 1) := dk_42 (dk_at dksX7_asked_3 10 rfl rfl)
theorem dX7_asked_80 : decode cX7_asked 80 = .ok (.getfield 46, 3) := dk_180 0 46 (dk_at dksX7_asked_3 11 rfl rfl)
theorem dX7_asked_83 : decode cX7_asked 83 = .ok (.iload 5, 2) := dk_21 5 (dk_at dksX7_asked_3 14 rfl rfl)
theorem dX7_asked_85 : decode cX7_asked 85 = .ok (.iaload, 1) := dk_46 (dk_at dksX7_asked_3 16 rfl rfl)
theorem dX7_asked_86 : decode cX7_asked 86 = .ok (.iload_n 2, 1) := dk_28 (dk_at dksX7_asked_3 17 rfl rfl)
theorem dX7_asked_87 : decode cX7_asked 87 = .ok (.if_icmp .le 7, 3) := dk_164 0 7 (dk_at dksX7_asked_3 18 rfl rfl)
theorem dX7_asked_90 : decode cX7_asked 90 = .ok (.iconst 1, 1) := dk_4 (dk_at dksX7_asked_3 21 rfl rfl)
theorem dX7_asked_91 : decode cX7_asked 91 = .ok (.goto 4, 3) := dk_167 0 4 (dk_at dksX7_asked_4 0 rfl rfl)
theorem dX7_asked_94 : decode cX7_asked 94 = .ok (.iconst 0, 1) := dk_3 (dk_at dksX7_asked_4 3 rfl rfl)
theorem dX7_asked_95 : decode cX7_asked 95 = .ok (.iadd, 1) := dk_96 (dk_at dksX7_asked_4 4 rfl rfl)
theorem dX7_asked_96 : decode cX7_asked 96 = .ok (.istore_n 3, 1) := dk_62 (dk_at dksX7_asked_4 5 rfl rfl)
theorem dX7_asked_97 : decode cX7_asked 97 = .ok (.iinc 5 1, 3) := dk_132 5 1 (dk_at dksX7_asked_4 6 rfl rfl)
theorem dX7_asked_100 : decode cX7_asked 100 = .ok (.goto (-64), 3) := dk_167 255 192 (dk_at dksX7_asked_4 9 rfl rfl)
theorem dX7_asked_103 : decode cX7_asked 103 = .ok (.iinc 4 1, 3) := dk_132 4 1 (dk_at dksX7_asked_4 12 rfl rfl)
theorem dX7_asked_106 : decode cX7_asked 106 = .ok (.goto (-83), 3) := dk_167 255 173 (dk_at dksX7_asked_4 15 rfl rfl)
theorem dX7_asked_109 : decode cX7_asked 109 = .ok (.iload_n 3, 1) := dk_29 (dk_at dksX7_asked_4 18 rfl rfl)
theorem dX7_asked_110 : decode cX7_asked 110 = .ok (.ireturn, 1) := dk_172 (dk_at dksX7_asked_4 19 rfl rfl)
abbrev cX7_bad : ByteArray := prog_22_method_105_code
def yX7_bad : MethodName := ⟨RX7, "bad", "(II)I"⟩
def dkwX7_bad_1 : List UInt8 := [27, 28, 182, 1, 140, 167, 0, 5, 16, 254, 172]
abbrev dktX7_bad_1 : List UInt8 := dkwX7_bad_1 ++ []
def dkwX7_bad_0 : List UInt8 := [42, 182, 1, 62, 153, 0, 28, 42, 27, 133, 182, 1, 58, 153, 0, 19, 28, 184, 1, 101, 153, 0, 12, 42]
abbrev dktX7_bad_0 : List UInt8 := dkwX7_bad_0 ++ dktX7_bad_1
theorem dksX7_bad_0 : cX7_bad.data.toList.drop 0 = dktX7_bad_0 := by decide +kernel
theorem dksX7_bad_1 : cX7_bad.data.toList.drop 24 = dktX7_bad_1 := dk_seg dksX7_bad_0 24 rfl rfl
theorem dX7_bad_0 : decode cX7_bad 0 = .ok (.aload_n 0, 1) := dk_42 (dk_at dksX7_bad_0 0 rfl rfl)
theorem dX7_bad_1 : decode cX7_bad 1 = .ok (.invokevirtual 318, 3) := dk_182 1 62 (dk_at dksX7_bad_0 1 rfl rfl)
theorem dX7_bad_4 : decode cX7_bad 4 = .ok (.ifCond .eq 28, 3) := dk_153 0 28 (dk_at dksX7_bad_0 4 rfl rfl)
theorem dX7_bad_7 : decode cX7_bad 7 = .ok (.aload_n 0, 1) := dk_42 (dk_at dksX7_bad_0 7 rfl rfl)
theorem dX7_bad_8 : decode cX7_bad 8 = .ok (.iload_n 1, 1) := dk_27 (dk_at dksX7_bad_0 8 rfl rfl)
theorem dX7_bad_9 : decode cX7_bad 9 = .ok (.i2l, 1) := dk_133 (dk_at dksX7_bad_0 9 rfl rfl)
theorem dX7_bad_10 : decode cX7_bad 10 = .ok (.invokevirtual 314, 3) := dk_182 1 58 (dk_at dksX7_bad_0 10 rfl rfl)
theorem dX7_bad_13 : decode cX7_bad 13 = .ok (.ifCond .eq 19, 3) := dk_153 0 19 (dk_at dksX7_bad_0 13 rfl rfl)
theorem dX7_bad_16 : decode cX7_bad 16 = .ok (.iload_n 2, 1) := dk_28 (dk_at dksX7_bad_0 16 rfl rfl)
theorem dX7_bad_17 : decode cX7_bad 17 = .ok (.invokestatic 357, 3) := dk_184 1 101 (dk_at dksX7_bad_0 17 rfl rfl)
theorem dX7_bad_20 : decode cX7_bad 20 = .ok (.ifCond .eq 12, 3) := dk_153 0 12 (dk_at dksX7_bad_0 20 rfl rfl)
theorem dX7_bad_23 : decode cX7_bad 23 = .ok (.aload_n 0, 1) := dk_42 (dk_at dksX7_bad_0 23 rfl rfl)
theorem dX7_bad_24 : decode cX7_bad 24 = .ok (.iload_n 1, 1) := dk_27 (dk_at dksX7_bad_1 0 rfl rfl)
theorem dX7_bad_25 : decode cX7_bad 25 = .ok (.iload_n 2, 1) := dk_28 (dk_at dksX7_bad_1 1 rfl rfl)
theorem dX7_bad_26 : decode cX7_bad 26 = .ok (.invokevirtual 396, 3) := dk_182 1 140 (dk_at dksX7_bad_1 2 rfl rfl)
theorem dX7_bad_29 : decode cX7_bad 29 = .ok (.goto 5, 3) := dk_167 0 5 (dk_at dksX7_bad_1 5 rfl rfl)
theorem dX7_bad_32 : decode cX7_bad 32 = .ok (.bipush (-2), 2) := dk_16 254 (dk_at dksX7_bad_1 8 rfl rfl)
theorem dX7_bad_34 : decode cX7_bad 34 = .ok (.ireturn, 1) := dk_172 (dk_at dksX7_bad_1 10 rfl rfl)
abbrev cX7_breaksFrom : ByteArray := prog_22_method_102_code
def yX7_breaksFrom : MethodName := ⟨RX7, "breaksFrom", "(II)I"⟩
def dkwX7_breaksFrom_0 : List UInt8 := [42, 182, 1, 130, 42, 27, 28, 182, 1, 133, 42, 180, 1, 111, 172]
abbrev dktX7_breaksFrom_0 : List UInt8 := dkwX7_breaksFrom_0 ++ []
theorem dksX7_breaksFrom_0 : cX7_breaksFrom.data.toList.drop 0 = dktX7_breaksFrom_0 := by decide +kernel
theorem dX7_breaksFrom_0 : decode cX7_breaksFrom 0 = .ok (.aload_n 0, 1) := dk_42 (dk_at dksX7_breaksFrom_0 0 rfl rfl)
theorem dX7_breaksFrom_1 : decode cX7_breaksFrom 1 = .ok (.invokevirtual 386, 3) := dk_182 1 130 (dk_at dksX7_breaksFrom_0 1 rfl rfl)
theorem dX7_breaksFrom_4 : decode cX7_breaksFrom 4 = .ok (.aload_n 0, 1) := dk_42 (dk_at dksX7_breaksFrom_0 4 rfl rfl)
theorem dX7_breaksFrom_5 : decode cX7_breaksFrom 5 = .ok (.iload_n 1, 1) := dk_27 (dk_at dksX7_breaksFrom_0 5 rfl rfl)
theorem dX7_breaksFrom_6 : decode cX7_breaksFrom 6 = .ok (.iload_n 2, 1) := dk_28 (dk_at dksX7_breaksFrom_0 6 rfl rfl)
theorem dX7_breaksFrom_7 : decode cX7_breaksFrom 7 = .ok (.invokevirtual 389, 3) := dk_182 1 133 (dk_at dksX7_breaksFrom_0 7 rfl rfl)
theorem dX7_breaksFrom_10 : decode cX7_breaksFrom 10 = .ok (.aload_n 0, 1) := dk_42 (dk_at dksX7_breaksFrom_0 10 rfl rfl)
theorem dX7_breaksFrom_11 : decode cX7_breaksFrom 11 = .ok (.getfield 367, 3) := dk_180 1 111 (dk_at dksX7_breaksFrom_0 11 rfl rfl)
theorem dX7_breaksFrom_14 : decode cX7_breaksFrom 14 = .ok (.ireturn, 1) := dk_172 (dk_at dksX7_breaksFrom_0 14 rfl rfl)
abbrev cX7_begins : ByteArray := prog_22_method_101_code
def yX7_begins : MethodName := ⟨RX7, "begins", "()V"⟩
def dkwX7_begins_2 : List UInt8 := [3, 79, 132, 1, 1, 167, 255, 241, 177]
abbrev dktX7_begins_2 : List UInt8 := dkwX7_begins_2 ++ []
def dkwX7_begins_1 : List UInt8 := [180, 0, 49, 27, 3, 84, 132, 1, 1, 167, 255, 239, 3, 60, 27, 8, 162, 0, 16, 42, 180, 0, 52, 27]
abbrev dktX7_begins_1 : List UInt8 := dkwX7_begins_1 ++ dktX7_begins_2
def dkwX7_begins_0 : List UInt8 := [42, 3, 181, 1, 111, 42, 19, 1, 68, 181, 1, 114, 3, 60, 27, 17, 16, 0, 162, 0, 16, 42]
abbrev dktX7_begins_0 : List UInt8 := dkwX7_begins_0 ++ dktX7_begins_1
theorem dksX7_begins_0 : cX7_begins.data.toList.drop 0 = dktX7_begins_0 := by decide +kernel
theorem dksX7_begins_1 : cX7_begins.data.toList.drop 22 = dktX7_begins_1 := dk_seg dksX7_begins_0 22 rfl rfl
theorem dksX7_begins_2 : cX7_begins.data.toList.drop 46 = dktX7_begins_2 := dk_seg dksX7_begins_1 24 rfl rfl
theorem dX7_begins_0 : decode cX7_begins 0 = .ok (.aload_n 0, 1) := dk_42 (dk_at dksX7_begins_0 0 rfl rfl)
theorem dX7_begins_1 : decode cX7_begins 1 = .ok (.iconst 0, 1) := dk_3 (dk_at dksX7_begins_0 1 rfl rfl)
theorem dX7_begins_2 : decode cX7_begins 2 = .ok (.putfield 367, 3) := dk_181 1 111 (dk_at dksX7_begins_0 2 rfl rfl)
theorem dX7_begins_5 : decode cX7_begins 5 = .ok (.aload_n 0, 1) := dk_42 (dk_at dksX7_begins_0 5 rfl rfl)
theorem dX7_begins_6 : decode cX7_begins 6 = .ok (.ldc_w 324, 3) := dk_19 1 68 (dk_at dksX7_begins_0 6 rfl rfl)
theorem dX7_begins_9 : decode cX7_begins 9 = .ok (.putfield 370, 3) := dk_181 1 114 (dk_at dksX7_begins_0 9 rfl rfl)
theorem dX7_begins_12 : decode cX7_begins 12 = .ok (.iconst 0, 1) := dk_3 (dk_at dksX7_begins_0 12 rfl rfl)
theorem dX7_begins_13 : decode cX7_begins 13 = .ok (.istore_n 1, 1) := dk_60 (dk_at dksX7_begins_0 13 rfl rfl)
theorem dX7_begins_14 : decode cX7_begins 14 = .ok (.iload_n 1, 1) := dk_27 (dk_at dksX7_begins_0 14 rfl rfl)
theorem dX7_begins_15 : decode cX7_begins 15 = .ok (.sipush 4096, 3) := dk_17 16 0 (dk_at dksX7_begins_0 15 rfl rfl)
theorem dX7_begins_18 : decode cX7_begins 18 = .ok (.if_icmp .ge 16, 3) := dk_162 0 16 (dk_at dksX7_begins_0 18 rfl rfl)
theorem dX7_begins_21 : decode cX7_begins 21 = .ok (.aload_n 0, 1) := dk_42 (dk_at dksX7_begins_0 21 rfl rfl)
theorem dX7_begins_22 : decode cX7_begins 22 = .ok (.getfield 49, 3) := dk_180 0 49 (dk_at dksX7_begins_1 0 rfl rfl)
theorem dX7_begins_25 : decode cX7_begins 25 = .ok (.iload_n 1, 1) := dk_27 (dk_at dksX7_begins_1 3 rfl rfl)
theorem dX7_begins_26 : decode cX7_begins 26 = .ok (.iconst 0, 1) := dk_3 (dk_at dksX7_begins_1 4 rfl rfl)
theorem dX7_begins_27 : decode cX7_begins 27 = .ok (.bastore, 1) := dk_84 (dk_at dksX7_begins_1 5 rfl rfl)
theorem dX7_begins_28 : decode cX7_begins 28 = .ok (.iinc 1 1, 3) := dk_132 1 1 (dk_at dksX7_begins_1 6 rfl rfl)
theorem dX7_begins_31 : decode cX7_begins 31 = .ok (.goto (-17), 3) := dk_167 255 239 (dk_at dksX7_begins_1 9 rfl rfl)
theorem dX7_begins_34 : decode cX7_begins 34 = .ok (.iconst 0, 1) := dk_3 (dk_at dksX7_begins_1 12 rfl rfl)
theorem dX7_begins_35 : decode cX7_begins 35 = .ok (.istore_n 1, 1) := dk_60 (dk_at dksX7_begins_1 13 rfl rfl)
theorem dX7_begins_36 : decode cX7_begins 36 = .ok (.iload_n 1, 1) := dk_27 (dk_at dksX7_begins_1 14 rfl rfl)
theorem dX7_begins_37 : decode cX7_begins 37 = .ok (.iconst 5, 1) := dk_8 (dk_at dksX7_begins_1 15 rfl rfl)
theorem dX7_begins_38 : decode cX7_begins 38 = .ok (.if_icmp .ge 16, 3) := dk_162 0 16 (dk_at dksX7_begins_1 16 rfl rfl)
theorem dX7_begins_41 : decode cX7_begins 41 = .ok (.aload_n 0, 1) := dk_42 (dk_at dksX7_begins_1 19 rfl rfl)
theorem dX7_begins_42 : decode cX7_begins 42 = .ok (.getfield 52, 3) := dk_180 0 52 (dk_at dksX7_begins_1 20 rfl rfl)
theorem dX7_begins_45 : decode cX7_begins 45 = .ok (.iload_n 1, 1) := dk_27 (dk_at dksX7_begins_1 23 rfl rfl)
theorem dX7_begins_46 : decode cX7_begins 46 = .ok (.iconst 0, 1) := dk_3 (dk_at dksX7_begins_2 0 rfl rfl)
theorem dX7_begins_47 : decode cX7_begins 47 = .ok (.iastore, 1) := dk_79 (dk_at dksX7_begins_2 1 rfl rfl)
theorem dX7_begins_48 : decode cX7_begins 48 = .ok (.iinc 1 1, 3) := dk_132 1 1 (dk_at dksX7_begins_2 2 rfl rfl)
theorem dX7_begins_51 : decode cX7_begins 51 = .ok (.goto (-15), 3) := dk_167 255 241 (dk_at dksX7_begins_2 5 rfl rfl)
theorem dX7_begins_54 : decode cX7_begins 54 = .ok (.return_, 1) := dk_177 (dk_at dksX7_begins_2 8 rfl rfl)
abbrev cX7_findFrom : ByteArray := prog_22_method_100_code
def yX7_findFrom : MethodName := ⟨RX7, "findFrom", "(II)V"⟩
def dkwX7_findFrom_4 : List UInt8 := [29, 21, 4, 182, 1, 126, 132, 4, 1, 167, 255, 185, 132, 3, 1, 167, 255, 155, 177]
abbrev dktX7_findFrom_4 : List UInt8 := dkwX7_findFrom_4 ++ []
def dkwX7_findFrom_3 : List UInt8 := [163, 0, 30, 42, 180, 0, 37, 42, 27, 29, 21, 4, 182, 1, 88, 51, 153, 0, 6, 167, 0, 11, 42, 27]
abbrev dktX7_findFrom_3 : List UInt8 := dkwX7_findFrom_3 ++ dktX7_findFrom_4
def dkwX7_findFrom_2 : List UInt8 := [46, 28, 163, 0, 51, 42, 180, 0, 46, 29, 46, 28, 164, 0, 14, 42, 180, 0, 46, 21, 4, 46, 28]
abbrev dktX7_findFrom_2 : List UInt8 := dkwX7_findFrom_2 ++ dktX7_findFrom_3
def dkwX7_findFrom_1 : List UInt8 := [164, 0, 6, 167, 0, 80, 29, 54, 4, 21, 4, 42, 182, 0, 96, 162, 0, 68, 42, 180, 0, 43, 21, 4]
abbrev dktX7_findFrom_1 : List UInt8 := dkwX7_findFrom_1 ++ dktX7_findFrom_2
def dkwX7_findFrom_0 : List UInt8 := [42, 27, 182, 1, 95, 3, 62, 29, 42, 182, 0, 96, 162, 0, 99, 42, 180, 0, 43, 29, 46, 28]
abbrev dktX7_findFrom_0 : List UInt8 := dkwX7_findFrom_0 ++ dktX7_findFrom_1
theorem dksX7_findFrom_0 : cX7_findFrom.data.toList.drop 0 = dktX7_findFrom_0 := by decide +kernel
theorem dksX7_findFrom_1 : cX7_findFrom.data.toList.drop 22 = dktX7_findFrom_1 := dk_seg dksX7_findFrom_0 22 rfl rfl
theorem dksX7_findFrom_2 : cX7_findFrom.data.toList.drop 46 = dktX7_findFrom_2 := dk_seg dksX7_findFrom_1 24 rfl rfl
theorem dksX7_findFrom_3 : cX7_findFrom.data.toList.drop 69 = dktX7_findFrom_3 := dk_seg dksX7_findFrom_2 23 rfl rfl
theorem dksX7_findFrom_4 : cX7_findFrom.data.toList.drop 93 = dktX7_findFrom_4 := dk_seg dksX7_findFrom_3 24 rfl rfl
theorem dX7_findFrom_0 : decode cX7_findFrom 0 = .ok (.aload_n 0, 1) := dk_42 (dk_at dksX7_findFrom_0 0 rfl rfl)
theorem dX7_findFrom_1 : decode cX7_findFrom 1 = .ok (.iload_n 1, 1) := dk_27 (dk_at dksX7_findFrom_0 1 rfl rfl)
theorem dX7_findFrom_2 : decode cX7_findFrom 2 = .ok (.invokevirtual 351, 3) := dk_182 1 95 (dk_at dksX7_findFrom_0 2 rfl rfl)
theorem dX7_findFrom_5 : decode cX7_findFrom 5 = .ok (.iconst 0, 1) := dk_3 (dk_at dksX7_findFrom_0 5 rfl rfl)
theorem dX7_findFrom_6 : decode cX7_findFrom 6 = .ok (.istore_n 3, 1) := dk_62 (dk_at dksX7_findFrom_0 6 rfl rfl)
theorem dX7_findFrom_7 : decode cX7_findFrom 7 = .ok (.iload_n 3, 1) := dk_29 (dk_at dksX7_findFrom_0 7 rfl rfl)
theorem dX7_findFrom_8 : decode cX7_findFrom 8 = .ok (.aload_n 0, 1) := dk_42 (dk_at dksX7_findFrom_0 8 rfl rfl)
theorem dX7_findFrom_9 : decode cX7_findFrom 9 = .ok (.invokevirtual 96, 3) := dk_182 0 96 (dk_at dksX7_findFrom_0 9 rfl rfl)
theorem dX7_findFrom_12 : decode cX7_findFrom 12 = .ok (.if_icmp .ge 99, 3) := dk_162 0 99 (dk_at dksX7_findFrom_0 12 rfl rfl)
theorem dX7_findFrom_15 : decode cX7_findFrom 15 = .ok (.aload_n 0, 1) := dk_42 (dk_at dksX7_findFrom_0 15 rfl rfl)
theorem dX7_findFrom_16 : decode cX7_findFrom 16 = .ok (.getfield 43, 3) := dk_180 0 43 (dk_at dksX7_findFrom_0 16 rfl rfl)
theorem dX7_findFrom_19 : decode cX7_findFrom 19 = .ok (.iload_n 3, 1) := dk_29 (dk_at dksX7_findFrom_0 19 rfl rfl)
theorem dX7_findFrom_20 : decode cX7_findFrom 20 = .ok (.iaload, 1) := dk_46 (dk_at dksX7_findFrom_0 20 rfl rfl)
theorem dX7_findFrom_21 : decode cX7_findFrom 21 = .ok (.iload_n 2, 1) := dk_28 (dk_at dksX7_findFrom_0 21 rfl rfl)
theorem dX7_findFrom_22 : decode cX7_findFrom 22 = .ok (.if_icmp .le 6, 3) := dk_164 0 6 (dk_at dksX7_findFrom_1 0 rfl rfl)
theorem dX7_findFrom_25 : decode cX7_findFrom 25 = .ok (.goto 80, 3) := dk_167 0 80 (dk_at dksX7_findFrom_1 3 rfl rfl)
theorem dX7_findFrom_28 : decode cX7_findFrom 28 = .ok (.iload_n 3, 1) := dk_29 (dk_at dksX7_findFrom_1 6 rfl rfl)
theorem dX7_findFrom_29 : decode cX7_findFrom 29 = .ok (.istore 4, 2) := dk_54 4 (dk_at dksX7_findFrom_1 7 rfl rfl)
theorem dX7_findFrom_31 : decode cX7_findFrom 31 = .ok (.iload 4, 2) := dk_21 4 (dk_at dksX7_findFrom_1 9 rfl rfl)
theorem dX7_findFrom_33 : decode cX7_findFrom 33 = .ok (.aload_n 0, 1) := dk_42 (dk_at dksX7_findFrom_1 11 rfl rfl)
theorem dX7_findFrom_34 : decode cX7_findFrom 34 = .ok (.invokevirtual 96, 3) := dk_182 0 96 (dk_at dksX7_findFrom_1 12 rfl rfl)
theorem dX7_findFrom_37 : decode cX7_findFrom 37 = .ok (.if_icmp .ge 68, 3) := dk_162 0 68 (dk_at dksX7_findFrom_1 15 rfl rfl)
theorem dX7_findFrom_40 : decode cX7_findFrom 40 = .ok (.aload_n 0, 1) := dk_42 (dk_at dksX7_findFrom_1 18 rfl rfl)
theorem dX7_findFrom_41 : decode cX7_findFrom 41 = .ok (.getfield 43, 3) := dk_180 0 43 (dk_at dksX7_findFrom_1 19 rfl rfl)
theorem dX7_findFrom_44 : decode cX7_findFrom 44 = .ok (.iload 4, 2) := dk_21 4 (dk_at dksX7_findFrom_1 22 rfl rfl)
theorem dX7_findFrom_46 : decode cX7_findFrom 46 = .ok (.iaload, 1) := dk_46 (dk_at dksX7_findFrom_2 0 rfl rfl)
theorem dX7_findFrom_47 : decode cX7_findFrom 47 = .ok (.iload_n 2, 1) := dk_28 (dk_at dksX7_findFrom_2 1 rfl rfl)
theorem dX7_findFrom_48 : decode cX7_findFrom 48 = .ok (.if_icmp .gt 51, 3) := dk_163 0 51 (dk_at dksX7_findFrom_2 2 rfl rfl)
theorem dX7_findFrom_51 : decode cX7_findFrom 51 = .ok (.aload_n 0, 1) := dk_42 (dk_at dksX7_findFrom_2 5 rfl rfl)
theorem dX7_findFrom_52 : decode cX7_findFrom 52 = .ok (.getfield 46, 3) := dk_180 0 46 (dk_at dksX7_findFrom_2 6 rfl rfl)
theorem dX7_findFrom_55 : decode cX7_findFrom 55 = .ok (.iload_n 3, 1) := dk_29 (dk_at dksX7_findFrom_2 9 rfl rfl)
theorem dX7_findFrom_56 : decode cX7_findFrom 56 = .ok (.iaload, 1) := dk_46 (dk_at dksX7_findFrom_2 10 rfl rfl)
theorem dX7_findFrom_57 : decode cX7_findFrom 57 = .ok (.iload_n 2, 1) := dk_28 (dk_at dksX7_findFrom_2 11 rfl rfl)
theorem dX7_findFrom_58 : decode cX7_findFrom 58 = .ok (.if_icmp .le 14, 3) := dk_164 0 14 (dk_at dksX7_findFrom_2 12 rfl rfl)
theorem dX7_findFrom_61 : decode cX7_findFrom 61 = .ok (.aload_n 0, 1) := dk_42 (dk_at dksX7_findFrom_2 15 rfl rfl)
theorem dX7_findFrom_62 : decode cX7_findFrom 62 = .ok (.getfield 46, 3) := dk_180 0 46 (dk_at dksX7_findFrom_2 16 rfl rfl)
theorem dX7_findFrom_65 : decode cX7_findFrom 65 = .ok (.iload 4, 2) := dk_21 4 (dk_at dksX7_findFrom_2 19 rfl rfl)
theorem dX7_findFrom_67 : decode cX7_findFrom 67 = .ok (.iaload, 1) := dk_46 (dk_at dksX7_findFrom_2 21 rfl rfl)
theorem dX7_findFrom_68 : decode cX7_findFrom 68 = .ok (.iload_n 2, 1) := dk_28 (dk_at dksX7_findFrom_2 22 rfl rfl)
theorem dX7_findFrom_69 : decode cX7_findFrom 69 = .ok (.if_icmp .gt 30, 3) := dk_163 0 30 (dk_at dksX7_findFrom_3 0 rfl rfl)
theorem dX7_findFrom_72 : decode cX7_findFrom 72 = .ok (.aload_n 0, 1) := dk_42 (dk_at dksX7_findFrom_3 3 rfl rfl)
theorem dX7_findFrom_73 : decode cX7_findFrom 73 = .ok (.getfield 37, 3) := dk_180 0 37 (dk_at dksX7_findFrom_3 4 rfl rfl)
theorem dX7_findFrom_76 : decode cX7_findFrom 76 = .ok (.aload_n 0, 1) := dk_42 (dk_at dksX7_findFrom_3 7 rfl rfl)
theorem dX7_findFrom_77 : decode cX7_findFrom 77 = .ok (.iload_n 1, 1) := dk_27 (dk_at dksX7_findFrom_3 8 rfl rfl)
theorem dX7_findFrom_78 : decode cX7_findFrom 78 = .ok (.iload_n 3, 1) := dk_29 (dk_at dksX7_findFrom_3 9 rfl rfl)
theorem dX7_findFrom_79 : decode cX7_findFrom 79 = .ok (.iload 4, 2) := dk_21 4 (dk_at dksX7_findFrom_3 10 rfl rfl)
theorem dX7_findFrom_81 : decode cX7_findFrom 81 = .ok (.invokevirtual 344, 3) := dk_182 1 88 (dk_at dksX7_findFrom_3 12 rfl rfl)
theorem dX7_findFrom_84 : decode cX7_findFrom 84 = .ok (.baload, 1) := dk_51 (dk_at dksX7_findFrom_3 15 rfl rfl)
theorem dX7_findFrom_85 : decode cX7_findFrom 85 = .ok (.ifCond .eq 6, 3) := dk_153 0 6 (dk_at dksX7_findFrom_3 16 rfl rfl)
theorem dX7_findFrom_88 : decode cX7_findFrom 88 = .ok (.goto 11, 3) := dk_167 0 11 (dk_at dksX7_findFrom_3 19 rfl rfl)
theorem dX7_findFrom_91 : decode cX7_findFrom 91 = .ok (.aload_n 0, 1) := dk_42 (dk_at dksX7_findFrom_3 22 rfl rfl)
theorem dX7_findFrom_92 : decode cX7_findFrom 92 = .ok (.iload_n 1, 1) := dk_27 (dk_at dksX7_findFrom_3 23 rfl rfl)
theorem dX7_findFrom_93 : decode cX7_findFrom 93 = .ok (.iload_n 3, 1) := dk_29 (dk_at dksX7_findFrom_4 0 rfl rfl)
theorem dX7_findFrom_94 : decode cX7_findFrom 94 = .ok (.iload 4, 2) := dk_21 4 (dk_at dksX7_findFrom_4 1 rfl rfl)
theorem dX7_findFrom_96 : decode cX7_findFrom 96 = .ok (.invokevirtual 382, 3) := dk_182 1 126 (dk_at dksX7_findFrom_4 3 rfl rfl)
theorem dX7_findFrom_99 : decode cX7_findFrom 99 = .ok (.iinc 4 1, 3) := dk_132 4 1 (dk_at dksX7_findFrom_4 6 rfl rfl)
theorem dX7_findFrom_102 : decode cX7_findFrom 102 = .ok (.goto (-71), 3) := dk_167 255 185 (dk_at dksX7_findFrom_4 9 rfl rfl)
theorem dX7_findFrom_105 : decode cX7_findFrom 105 = .ok (.iinc 3 1, 3) := dk_132 3 1 (dk_at dksX7_findFrom_4 12 rfl rfl)
theorem dX7_findFrom_108 : decode cX7_findFrom 108 = .ok (.goto (-101), 3) := dk_167 255 155 (dk_at dksX7_findFrom_4 15 rfl rfl)
theorem dX7_findFrom_111 : decode cX7_findFrom 111 = .ok (.return_, 1) := dk_177 (dk_at dksX7_findFrom_4 18 rfl rfl)
abbrev cX7_keepBreak : ByteArray := prog_22_method_99_code
def yX7_keepBreak : MethodName := ⟨RX7, "keepBreak", "(III)V"⟩
def dkwX7_keepBreak_5 : List UInt8 := [42, 27, 181, 1, 117, 42, 28, 181, 1, 120, 42, 29, 181, 1, 123, 177]
abbrev dktX7_keepBreak_5 : List UInt8 := dkwX7_keepBreak_5 ++ []
def dkwX7_keepBreak_4 : List UInt8 := [180, 0, 43, 29, 46, 96, 54, 5, 21, 5, 42, 180, 1, 114, 161, 0, 4, 177, 42, 21, 5, 181, 1, 114]
abbrev dktX7_keepBreak_4 : List UInt8 := dkwX7_keepBreak_4 ++ dktX7_keepBreak_5
def dkwX7_keepBreak_3 : List UInt8 := [154, 0, 7, 4, 167, 0, 4, 3, 96, 79, 132, 5, 1, 167, 255, 206, 42, 180, 0, 43, 28, 46, 42]
abbrev dktX7_keepBreak_3 : List UInt8 := dkwX7_keepBreak_3 ++ dktX7_keepBreak_4
def dkwX7_keepBreak_2 : List UInt8 := [21, 5, 92, 46, 42, 180, 1, 26, 21, 5, 184, 1, 32, 154, 0, 18, 42, 21, 5, 21, 4, 182, 1, 35]
abbrev dktX7_keepBreak_2 : List UInt8 := dkwX7_keepBreak_2 ++ dktX7_keepBreak_3
def dkwX7_keepBreak_1 : List UInt8 := [28, 29, 182, 1, 88, 54, 4, 3, 54, 5, 21, 5, 42, 182, 0, 80, 162, 0, 47, 42, 180, 0, 52]
abbrev dktX7_keepBreak_1 : List UInt8 := dkwX7_keepBreak_1 ++ dktX7_keepBreak_2
def dkwX7_keepBreak_0 : List UInt8 := [42, 89, 180, 1, 111, 4, 96, 181, 1, 111, 42, 180, 0, 49, 16, 64, 28, 104, 29, 96, 4, 84, 42, 27]
abbrev dktX7_keepBreak_0 : List UInt8 := dkwX7_keepBreak_0 ++ dktX7_keepBreak_1
theorem dksX7_keepBreak_0 : cX7_keepBreak.data.toList.drop 0 = dktX7_keepBreak_0 := by decide +kernel
theorem dksX7_keepBreak_1 : cX7_keepBreak.data.toList.drop 24 = dktX7_keepBreak_1 := dk_seg dksX7_keepBreak_0 24 rfl rfl
theorem dksX7_keepBreak_2 : cX7_keepBreak.data.toList.drop 47 = dktX7_keepBreak_2 := dk_seg dksX7_keepBreak_1 23 rfl rfl
theorem dksX7_keepBreak_3 : cX7_keepBreak.data.toList.drop 71 = dktX7_keepBreak_3 := dk_seg dksX7_keepBreak_2 24 rfl rfl
theorem dksX7_keepBreak_4 : cX7_keepBreak.data.toList.drop 94 = dktX7_keepBreak_4 := dk_seg dksX7_keepBreak_3 23 rfl rfl
theorem dksX7_keepBreak_5 : cX7_keepBreak.data.toList.drop 118 = dktX7_keepBreak_5 := dk_seg dksX7_keepBreak_4 24 rfl rfl
theorem dX7_keepBreak_0 : decode cX7_keepBreak 0 = .ok (.aload_n 0, 1) := dk_42 (dk_at dksX7_keepBreak_0 0 rfl rfl)
theorem dX7_keepBreak_1 : decode cX7_keepBreak 1 = .ok (.dup, 1) := dk_89 (dk_at dksX7_keepBreak_0 1 rfl rfl)
theorem dX7_keepBreak_2 : decode cX7_keepBreak 2 = .ok (.getfield 367, 3) := dk_180 1 111 (dk_at dksX7_keepBreak_0 2 rfl rfl)
theorem dX7_keepBreak_5 : decode cX7_keepBreak 5 = .ok (.iconst 1, 1) := dk_4 (dk_at dksX7_keepBreak_0 5 rfl rfl)
theorem dX7_keepBreak_6 : decode cX7_keepBreak 6 = .ok (.iadd, 1) := dk_96 (dk_at dksX7_keepBreak_0 6 rfl rfl)
theorem dX7_keepBreak_7 : decode cX7_keepBreak 7 = .ok (.putfield 367, 3) := dk_181 1 111 (dk_at dksX7_keepBreak_0 7 rfl rfl)
theorem dX7_keepBreak_10 : decode cX7_keepBreak 10 = .ok (.aload_n 0, 1) := dk_42 (dk_at dksX7_keepBreak_0 10 rfl rfl)
theorem dX7_keepBreak_11 : decode cX7_keepBreak 11 = .ok (.getfield 49, 3) := dk_180 0 49 (dk_at dksX7_keepBreak_0 11 rfl rfl)
theorem dX7_keepBreak_14 : decode cX7_keepBreak 14 = .ok (.bipush 64, 2) := dk_16 64 (dk_at dksX7_keepBreak_0 14 rfl rfl)
theorem dX7_keepBreak_16 : decode cX7_keepBreak 16 = .ok (.iload_n 2, 1) := dk_28 (dk_at dksX7_keepBreak_0 16 rfl rfl)
theorem dX7_keepBreak_17 : decode cX7_keepBreak 17 = .ok (.imul, 1) := dk_104 (dk_at dksX7_keepBreak_0 17 rfl rfl)
theorem dX7_keepBreak_18 : decode cX7_keepBreak 18 = .ok (.iload_n 3, 1) := dk_29 (dk_at dksX7_keepBreak_0 18 rfl rfl)
theorem dX7_keepBreak_19 : decode cX7_keepBreak 19 = .ok (.iadd, 1) := dk_96 (dk_at dksX7_keepBreak_0 19 rfl rfl)
theorem dX7_keepBreak_20 : decode cX7_keepBreak 20 = .ok (.iconst 1, 1) := dk_4 (dk_at dksX7_keepBreak_0 20 rfl rfl)
theorem dX7_keepBreak_21 : decode cX7_keepBreak 21 = .ok (.bastore, 1) := dk_84 (dk_at dksX7_keepBreak_0 21 rfl rfl)
theorem dX7_keepBreak_22 : decode cX7_keepBreak 22 = .ok (.aload_n 0, 1) := dk_42 (dk_at dksX7_keepBreak_0 22 rfl rfl)
theorem dX7_keepBreak_23 : decode cX7_keepBreak 23 = .ok (.iload_n 1, 1) := dk_27 (dk_at dksX7_keepBreak_0 23 rfl rfl)
theorem dX7_keepBreak_24 : decode cX7_keepBreak 24 = .ok (.iload_n 2, 1) := dk_28 (dk_at dksX7_keepBreak_1 0 rfl rfl)
theorem dX7_keepBreak_25 : decode cX7_keepBreak 25 = .ok (.iload_n 3, 1) := dk_29 (dk_at dksX7_keepBreak_1 1 rfl rfl)
theorem dX7_keepBreak_26 : decode cX7_keepBreak 26 = .ok (.invokevirtual 344, 3) := dk_182 1 88 (dk_at dksX7_keepBreak_1 2 rfl rfl)
theorem dX7_keepBreak_29 : decode cX7_keepBreak 29 = .ok (.istore 4, 2) := dk_54 4 (dk_at dksX7_keepBreak_1 5 rfl rfl)
theorem dX7_keepBreak_31 : decode cX7_keepBreak 31 = .ok (.iconst 0, 1) := dk_3 (dk_at dksX7_keepBreak_1 7 rfl rfl)
theorem dX7_keepBreak_32 : decode cX7_keepBreak 32 = .ok (.istore 5, 2) := dk_54 5 (dk_at dksX7_keepBreak_1 8 rfl rfl)
theorem dX7_keepBreak_34 : decode cX7_keepBreak 34 = .ok (.iload 5, 2) := dk_21 5 (dk_at dksX7_keepBreak_1 10 rfl rfl)
theorem dX7_keepBreak_36 : decode cX7_keepBreak 36 = .ok (.aload_n 0, 1) := dk_42 (dk_at dksX7_keepBreak_1 12 rfl rfl)
theorem dX7_keepBreak_37 : decode cX7_keepBreak 37 = .ok (.invokevirtual 80, 3) := dk_182 0 80 (dk_at dksX7_keepBreak_1 13 rfl rfl)
theorem dX7_keepBreak_40 : decode cX7_keepBreak 40 = .ok (.if_icmp .ge 47, 3) := dk_162 0 47 (dk_at dksX7_keepBreak_1 16 rfl rfl)
theorem dX7_keepBreak_43 : decode cX7_keepBreak 43 = .ok (.aload_n 0, 1) := dk_42 (dk_at dksX7_keepBreak_1 19 rfl rfl)
theorem dX7_keepBreak_44 : decode cX7_keepBreak 44 = .ok (.getfield 52, 3) := dk_180 0 52 (dk_at dksX7_keepBreak_1 20 rfl rfl)
theorem dX7_keepBreak_47 : decode cX7_keepBreak 47 = .ok (.iload 5, 2) := dk_21 5 (dk_at dksX7_keepBreak_2 0 rfl rfl)
theorem dX7_keepBreak_49 : decode cX7_keepBreak 49 = .ok (.dup2, 1) := dk_92 (dk_at dksX7_keepBreak_2 2 rfl rfl)
theorem dX7_keepBreak_50 : decode cX7_keepBreak 50 = .ok (.iaload, 1) := dk_46 (dk_at dksX7_keepBreak_2 3 rfl rfl)
theorem dX7_keepBreak_51 : decode cX7_keepBreak 51 = .ok (.aload_n 0, 1) := dk_42 (dk_at dksX7_keepBreak_2 4 rfl rfl)
theorem dX7_keepBreak_52 : decode cX7_keepBreak 52 = .ok (.getfield 282, 3) := dk_180 1 26 (dk_at dksX7_keepBreak_2 5 rfl rfl)
theorem dX7_keepBreak_55 : decode cX7_keepBreak 55 = .ok (.iload 5, 2) := dk_21 5 (dk_at dksX7_keepBreak_2 8 rfl rfl)
theorem dX7_keepBreak_57 : decode cX7_keepBreak 57 = .ok (.invokestatic 288, 3) := dk_184 1 32 (dk_at dksX7_keepBreak_2 10 rfl rfl)
theorem dX7_keepBreak_60 : decode cX7_keepBreak 60 = .ok (.ifCond .ne 18, 3) := dk_154 0 18 (dk_at dksX7_keepBreak_2 13 rfl rfl)
theorem dX7_keepBreak_63 : decode cX7_keepBreak 63 = .ok (.aload_n 0, 1) := dk_42 (dk_at dksX7_keepBreak_2 16 rfl rfl)
theorem dX7_keepBreak_64 : decode cX7_keepBreak 64 = .ok (.iload 5, 2) := dk_21 5 (dk_at dksX7_keepBreak_2 17 rfl rfl)
theorem dX7_keepBreak_66 : decode cX7_keepBreak 66 = .ok (.iload 4, 2) := dk_21 4 (dk_at dksX7_keepBreak_2 19 rfl rfl)
theorem dX7_keepBreak_68 : decode cX7_keepBreak 68 = .ok (.invokevirtual 291, 3) := dk_182 1 35 (dk_at dksX7_keepBreak_2 21 rfl rfl)
theorem dX7_keepBreak_71 : decode cX7_keepBreak 71 = .ok (.ifCond .ne 7, 3) := dk_154 0 7 (dk_at dksX7_keepBreak_3 0 rfl rfl)
theorem dX7_keepBreak_74 : decode cX7_keepBreak 74 = .ok (.iconst 1, 1) := dk_4 (dk_at dksX7_keepBreak_3 3 rfl rfl)
theorem dX7_keepBreak_75 : decode cX7_keepBreak 75 = .ok (.goto 4, 3) := dk_167 0 4 (dk_at dksX7_keepBreak_3 4 rfl rfl)
theorem dX7_keepBreak_78 : decode cX7_keepBreak 78 = .ok (.iconst 0, 1) := dk_3 (dk_at dksX7_keepBreak_3 7 rfl rfl)
theorem dX7_keepBreak_79 : decode cX7_keepBreak 79 = .ok (.iadd, 1) := dk_96 (dk_at dksX7_keepBreak_3 8 rfl rfl)
theorem dX7_keepBreak_80 : decode cX7_keepBreak 80 = .ok (.iastore, 1) := dk_79 (dk_at dksX7_keepBreak_3 9 rfl rfl)
theorem dX7_keepBreak_81 : decode cX7_keepBreak 81 = .ok (.iinc 5 1, 3) := dk_132 5 1 (dk_at dksX7_keepBreak_3 10 rfl rfl)
theorem dX7_keepBreak_84 : decode cX7_keepBreak 84 = .ok (.goto (-50), 3) := dk_167 255 206 (dk_at dksX7_keepBreak_3 13 rfl rfl)
theorem dX7_keepBreak_87 : decode cX7_keepBreak 87 = .ok (.aload_n 0, 1) := dk_42 (dk_at dksX7_keepBreak_3 16 rfl rfl)
theorem dX7_keepBreak_88 : decode cX7_keepBreak 88 = .ok (.getfield 43, 3) := dk_180 0 43 (dk_at dksX7_keepBreak_3 17 rfl rfl)
theorem dX7_keepBreak_91 : decode cX7_keepBreak 91 = .ok (.iload_n 2, 1) := dk_28 (dk_at dksX7_keepBreak_3 20 rfl rfl)
theorem dX7_keepBreak_92 : decode cX7_keepBreak 92 = .ok (.iaload, 1) := dk_46 (dk_at dksX7_keepBreak_3 21 rfl rfl)
theorem dX7_keepBreak_93 : decode cX7_keepBreak 93 = .ok (.aload_n 0, 1) := dk_42 (dk_at dksX7_keepBreak_3 22 rfl rfl)
theorem dX7_keepBreak_94 : decode cX7_keepBreak 94 = .ok (.getfield 43, 3) := dk_180 0 43 (dk_at dksX7_keepBreak_4 0 rfl rfl)
theorem dX7_keepBreak_97 : decode cX7_keepBreak 97 = .ok (.iload_n 3, 1) := dk_29 (dk_at dksX7_keepBreak_4 3 rfl rfl)
theorem dX7_keepBreak_98 : decode cX7_keepBreak 98 = .ok (.iaload, 1) := dk_46 (dk_at dksX7_keepBreak_4 4 rfl rfl)
theorem dX7_keepBreak_99 : decode cX7_keepBreak 99 = .ok (.iadd, 1) := dk_96 (dk_at dksX7_keepBreak_4 5 rfl rfl)
theorem dX7_keepBreak_100 : decode cX7_keepBreak 100 = .ok (.istore 5, 2) := dk_54 5 (dk_at dksX7_keepBreak_4 6 rfl rfl)
theorem dX7_keepBreak_102 : decode cX7_keepBreak 102 = .ok (.iload 5, 2) := dk_21 5 (dk_at dksX7_keepBreak_4 8 rfl rfl)
theorem dX7_keepBreak_104 : decode cX7_keepBreak 104 = .ok (.aload_n 0, 1) := dk_42 (dk_at dksX7_keepBreak_4 10 rfl rfl)
theorem dX7_keepBreak_105 : decode cX7_keepBreak 105 = .ok (.getfield 370, 3) := dk_180 1 114 (dk_at dksX7_keepBreak_4 11 rfl rfl)
theorem dX7_keepBreak_108 : decode cX7_keepBreak 108 = .ok (.if_icmp .lt 4, 3) := dk_161 0 4 (dk_at dksX7_keepBreak_4 14 rfl rfl)
theorem dX7_keepBreak_111 : decode cX7_keepBreak 111 = .ok (.return_, 1) := dk_177 (dk_at dksX7_keepBreak_4 17 rfl rfl)
theorem dX7_keepBreak_112 : decode cX7_keepBreak 112 = .ok (.aload_n 0, 1) := dk_42 (dk_at dksX7_keepBreak_4 18 rfl rfl)
theorem dX7_keepBreak_113 : decode cX7_keepBreak 113 = .ok (.iload 5, 2) := dk_21 5 (dk_at dksX7_keepBreak_4 19 rfl rfl)
theorem dX7_keepBreak_115 : decode cX7_keepBreak 115 = .ok (.putfield 370, 3) := dk_181 1 114 (dk_at dksX7_keepBreak_4 21 rfl rfl)
theorem dX7_keepBreak_118 : decode cX7_keepBreak 118 = .ok (.aload_n 0, 1) := dk_42 (dk_at dksX7_keepBreak_5 0 rfl rfl)
theorem dX7_keepBreak_119 : decode cX7_keepBreak 119 = .ok (.iload_n 1, 1) := dk_27 (dk_at dksX7_keepBreak_5 1 rfl rfl)
theorem dX7_keepBreak_120 : decode cX7_keepBreak 120 = .ok (.putfield 373, 3) := dk_181 1 117 (dk_at dksX7_keepBreak_5 2 rfl rfl)
theorem dX7_keepBreak_123 : decode cX7_keepBreak 123 = .ok (.aload_n 0, 1) := dk_42 (dk_at dksX7_keepBreak_5 5 rfl rfl)
theorem dX7_keepBreak_124 : decode cX7_keepBreak 124 = .ok (.iload_n 2, 1) := dk_28 (dk_at dksX7_keepBreak_5 6 rfl rfl)
theorem dX7_keepBreak_125 : decode cX7_keepBreak 125 = .ok (.putfield 376, 3) := dk_181 1 120 (dk_at dksX7_keepBreak_5 7 rfl rfl)
theorem dX7_keepBreak_128 : decode cX7_keepBreak 128 = .ok (.aload_n 0, 1) := dk_42 (dk_at dksX7_keepBreak_5 10 rfl rfl)
theorem dX7_keepBreak_129 : decode cX7_keepBreak 129 = .ok (.iload_n 3, 1) := dk_29 (dk_at dksX7_keepBreak_5 11 rfl rfl)
theorem dX7_keepBreak_130 : decode cX7_keepBreak 130 = .ok (.putfield 379, 3) := dk_181 1 123 (dk_at dksX7_keepBreak_5 12 rfl rfl)
theorem dX7_keepBreak_133 : decode cX7_keepBreak 133 = .ok (.return_, 1) := dk_177 (dk_at dksX7_keepBreak_5 15 rfl rfl)
abbrev cX7_all : ByteArray := prog_22_method_106_code
def yX7_all : MethodName := ⟨RX7, "all", "(I)I"⟩
def dkwX7_all_0 : List UInt8 := [42, 27, 182, 1, 143, 153, 0, 10, 42, 180, 1, 111, 167, 0, 5, 16, 254, 172]
abbrev dktX7_all_0 : List UInt8 := dkwX7_all_0 ++ []
theorem dksX7_all_0 : cX7_all.data.toList.drop 0 = dktX7_all_0 := by decide +kernel
theorem dX7_all_0 : decode cX7_all 0 = .ok (.aload_n 0, 1) := dk_42 (dk_at dksX7_all_0 0 rfl rfl)
theorem dX7_all_1 : decode cX7_all 1 = .ok (.iload_n 1, 1) := dk_27 (dk_at dksX7_all_0 1 rfl rfl)
theorem dX7_all_2 : decode cX7_all 2 = .ok (.invokevirtual 399, 3) := dk_182 1 143 (dk_at dksX7_all_0 2 rfl rfl)
theorem dX7_all_5 : decode cX7_all 5 = .ok (.ifCond .eq 10, 3) := dk_153 0 10 (dk_at dksX7_all_0 5 rfl rfl)
theorem dX7_all_8 : decode cX7_all 8 = .ok (.aload_n 0, 1) := dk_42 (dk_at dksX7_all_0 8 rfl rfl)
theorem dX7_all_9 : decode cX7_all 9 = .ok (.getfield 367, 3) := dk_180 1 111 (dk_at dksX7_all_0 9 rfl rfl)
theorem dX7_all_12 : decode cX7_all 12 = .ok (.goto 5, 3) := dk_167 0 5 (dk_at dksX7_all_0 12 rfl rfl)
theorem dX7_all_15 : decode cX7_all 15 = .ok (.bipush (-2), 2) := dk_16 254 (dk_at dksX7_all_0 15 rfl rfl)
theorem dX7_all_17 : decode cX7_all 17 = .ok (.ireturn, 1) := dk_172 (dk_at dksX7_all_0 17 rfl rfl)
abbrev cX7_asksIn : ByteArray := prog_22_method_104_code
def yX7_asksIn : MethodName := ⟨RX7, "asksIn", "(I)Z"⟩
def dkwX7_asksIn_0 : List UInt8 := [42, 182, 1, 62, 153, 0, 10, 27, 184, 1, 101, 154, 0, 5, 3, 172, 42, 27, 182, 1, 137, 87, 4, 172]
abbrev dktX7_asksIn_0 : List UInt8 := dkwX7_asksIn_0 ++ []
theorem dksX7_asksIn_0 : cX7_asksIn.data.toList.drop 0 = dktX7_asksIn_0 := by decide +kernel
theorem dX7_asksIn_0 : decode cX7_asksIn 0 = .ok (.aload_n 0, 1) := dk_42 (dk_at dksX7_asksIn_0 0 rfl rfl)
theorem dX7_asksIn_1 : decode cX7_asksIn 1 = .ok (.invokevirtual 318, 3) := dk_182 1 62 (dk_at dksX7_asksIn_0 1 rfl rfl)
theorem dX7_asksIn_4 : decode cX7_asksIn 4 = .ok (.ifCond .eq 10, 3) := dk_153 0 10 (dk_at dksX7_asksIn_0 4 rfl rfl)
theorem dX7_asksIn_7 : decode cX7_asksIn 7 = .ok (.iload_n 1, 1) := dk_27 (dk_at dksX7_asksIn_0 7 rfl rfl)
theorem dX7_asksIn_8 : decode cX7_asksIn 8 = .ok (.invokestatic 357, 3) := dk_184 1 101 (dk_at dksX7_asksIn_0 8 rfl rfl)
theorem dX7_asksIn_11 : decode cX7_asksIn 11 = .ok (.ifCond .ne 5, 3) := dk_154 0 5 (dk_at dksX7_asksIn_0 11 rfl rfl)
theorem dX7_asksIn_14 : decode cX7_asksIn 14 = .ok (.iconst 0, 1) := dk_3 (dk_at dksX7_asksIn_0 14 rfl rfl)
theorem dX7_asksIn_15 : decode cX7_asksIn 15 = .ok (.ireturn, 1) := dk_172 (dk_at dksX7_asksIn_0 15 rfl rfl)
theorem dX7_asksIn_16 : decode cX7_asksIn 16 = .ok (.aload_n 0, 1) := dk_42 (dk_at dksX7_asksIn_0 16 rfl rfl)
theorem dX7_asksIn_17 : decode cX7_asksIn 17 = .ok (.iload_n 1, 1) := dk_27 (dk_at dksX7_asksIn_0 17 rfl rfl)
theorem dX7_asksIn_18 : decode cX7_asksIn 18 = .ok (.invokevirtual 393, 3) := dk_182 1 137 (dk_at dksX7_asksIn_0 18 rfl rfl)
theorem dX7_asksIn_21 : decode cX7_asksIn 21 = .ok (.pop, 1) := dk_87 (dk_at dksX7_asksIn_0 21 rfl rfl)
theorem dX7_asksIn_22 : decode cX7_asksIn 22 = .ok (.iconst 1, 1) := dk_4 (dk_at dksX7_asksIn_0 22 rfl rfl)
theorem dX7_asksIn_23 : decode cX7_asksIn 23 = .ok (.ireturn, 1) := dk_172 (dk_at dksX7_asksIn_0 23 rfl rfl)
abbrev cX7_breaksIn : ByteArray := prog_22_method_103_code
def yX7_breaksIn : MethodName := ⟨RX7, "breaksIn", "(I)I"⟩
def dkwX7_breaksIn_1 : List UInt8 := [167, 255, 239, 42, 180, 1, 111, 172]
abbrev dktX7_breaksIn_1 : List UInt8 := dkwX7_breaksIn_1 ++ []
def dkwX7_breaksIn_0 : List UInt8 := [42, 182, 1, 130, 3, 61, 28, 42, 182, 0, 96, 162, 0, 15, 42, 28, 27, 182, 1, 133, 132, 2, 1]
abbrev dktX7_breaksIn_0 : List UInt8 := dkwX7_breaksIn_0 ++ dktX7_breaksIn_1
theorem dksX7_breaksIn_0 : cX7_breaksIn.data.toList.drop 0 = dktX7_breaksIn_0 := by decide +kernel
theorem dksX7_breaksIn_1 : cX7_breaksIn.data.toList.drop 23 = dktX7_breaksIn_1 := dk_seg dksX7_breaksIn_0 23 rfl rfl
theorem dX7_breaksIn_0 : decode cX7_breaksIn 0 = .ok (.aload_n 0, 1) := dk_42 (dk_at dksX7_breaksIn_0 0 rfl rfl)
theorem dX7_breaksIn_1 : decode cX7_breaksIn 1 = .ok (.invokevirtual 386, 3) := dk_182 1 130 (dk_at dksX7_breaksIn_0 1 rfl rfl)
theorem dX7_breaksIn_4 : decode cX7_breaksIn 4 = .ok (.iconst 0, 1) := dk_3 (dk_at dksX7_breaksIn_0 4 rfl rfl)
theorem dX7_breaksIn_5 : decode cX7_breaksIn 5 = .ok (.istore_n 2, 1) := dk_61 (dk_at dksX7_breaksIn_0 5 rfl rfl)
theorem dX7_breaksIn_6 : decode cX7_breaksIn 6 = .ok (.iload_n 2, 1) := dk_28 (dk_at dksX7_breaksIn_0 6 rfl rfl)
theorem dX7_breaksIn_7 : decode cX7_breaksIn 7 = .ok (.aload_n 0, 1) := dk_42 (dk_at dksX7_breaksIn_0 7 rfl rfl)
theorem dX7_breaksIn_8 : decode cX7_breaksIn 8 = .ok (.invokevirtual 96, 3) := dk_182 0 96 (dk_at dksX7_breaksIn_0 8 rfl rfl)
theorem dX7_breaksIn_11 : decode cX7_breaksIn 11 = .ok (.if_icmp .ge 15, 3) := dk_162 0 15 (dk_at dksX7_breaksIn_0 11 rfl rfl)
theorem dX7_breaksIn_14 : decode cX7_breaksIn 14 = .ok (.aload_n 0, 1) := dk_42 (dk_at dksX7_breaksIn_0 14 rfl rfl)
theorem dX7_breaksIn_15 : decode cX7_breaksIn 15 = .ok (.iload_n 2, 1) := dk_28 (dk_at dksX7_breaksIn_0 15 rfl rfl)
theorem dX7_breaksIn_16 : decode cX7_breaksIn 16 = .ok (.iload_n 1, 1) := dk_27 (dk_at dksX7_breaksIn_0 16 rfl rfl)
theorem dX7_breaksIn_17 : decode cX7_breaksIn 17 = .ok (.invokevirtual 389, 3) := dk_182 1 133 (dk_at dksX7_breaksIn_0 17 rfl rfl)
theorem dX7_breaksIn_20 : decode cX7_breaksIn 20 = .ok (.iinc 2 1, 3) := dk_132 2 1 (dk_at dksX7_breaksIn_0 20 rfl rfl)
theorem dX7_breaksIn_23 : decode cX7_breaksIn 23 = .ok (.goto (-17), 3) := dk_167 255 239 (dk_at dksX7_breaksIn_1 0 rfl rfl)
theorem dX7_breaksIn_26 : decode cX7_breaksIn 26 = .ok (.aload_n 0, 1) := dk_42 (dk_at dksX7_breaksIn_1 3 rfl rfl)
theorem dX7_breaksIn_27 : decode cX7_breaksIn 27 = .ok (.getfield 367, 3) := dk_180 1 111 (dk_at dksX7_breaksIn_1 4 rfl rfl)
theorem dX7_breaksIn_30 : decode cX7_breaksIn 30 = .ok (.ireturn, 1) := dk_172 (dk_at dksX7_breaksIn_1 7 rfl rfl)
abbrev cX7_pairs : ByteArray := prog_22_method_107_code
def yX7_pairs : MethodName := ⟨RX7, "pairs", "(I)I"⟩
def dkwX7_pairs_1 : List UInt8 := [180, 0, 49, 29, 51, 153, 0, 7, 4, 167, 0, 4, 3, 96, 61, 132, 3, 1, 167, 255, 229, 28, 172]
abbrev dktX7_pairs_1 : List UInt8 := dkwX7_pairs_1 ++ []
def dkwX7_pairs_0 : List UInt8 := [42, 27, 182, 1, 143, 154, 0, 6, 16, 254, 172, 3, 61, 3, 62, 29, 17, 16, 0, 162, 0, 26, 28, 42]
abbrev dktX7_pairs_0 : List UInt8 := dkwX7_pairs_0 ++ dktX7_pairs_1
theorem dksX7_pairs_0 : cX7_pairs.data.toList.drop 0 = dktX7_pairs_0 := by decide +kernel
theorem dksX7_pairs_1 : cX7_pairs.data.toList.drop 24 = dktX7_pairs_1 := dk_seg dksX7_pairs_0 24 rfl rfl
theorem dX7_pairs_0 : decode cX7_pairs 0 = .ok (.aload_n 0, 1) := dk_42 (dk_at dksX7_pairs_0 0 rfl rfl)
theorem dX7_pairs_1 : decode cX7_pairs 1 = .ok (.iload_n 1, 1) := dk_27 (dk_at dksX7_pairs_0 1 rfl rfl)
theorem dX7_pairs_2 : decode cX7_pairs 2 = .ok (.invokevirtual 399, 3) := dk_182 1 143 (dk_at dksX7_pairs_0 2 rfl rfl)
theorem dX7_pairs_5 : decode cX7_pairs 5 = .ok (.ifCond .ne 6, 3) := dk_154 0 6 (dk_at dksX7_pairs_0 5 rfl rfl)
theorem dX7_pairs_8 : decode cX7_pairs 8 = .ok (.bipush (-2), 2) := dk_16 254 (dk_at dksX7_pairs_0 8 rfl rfl)
theorem dX7_pairs_10 : decode cX7_pairs 10 = .ok (.ireturn, 1) := dk_172 (dk_at dksX7_pairs_0 10 rfl rfl)
theorem dX7_pairs_11 : decode cX7_pairs 11 = .ok (.iconst 0, 1) := dk_3 (dk_at dksX7_pairs_0 11 rfl rfl)
theorem dX7_pairs_12 : decode cX7_pairs 12 = .ok (.istore_n 2, 1) := dk_61 (dk_at dksX7_pairs_0 12 rfl rfl)
theorem dX7_pairs_13 : decode cX7_pairs 13 = .ok (.iconst 0, 1) := dk_3 (dk_at dksX7_pairs_0 13 rfl rfl)
theorem dX7_pairs_14 : decode cX7_pairs 14 = .ok (.istore_n 3, 1) := dk_62 (dk_at dksX7_pairs_0 14 rfl rfl)
theorem dX7_pairs_15 : decode cX7_pairs 15 = .ok (.iload_n 3, 1) := dk_29 (dk_at dksX7_pairs_0 15 rfl rfl)
theorem dX7_pairs_16 : decode cX7_pairs 16 = .ok (.sipush 4096, 3) := dk_17 16 0 (dk_at dksX7_pairs_0 16 rfl rfl)
theorem dX7_pairs_19 : decode cX7_pairs 19 = .ok (.if_icmp .ge 26, 3) := dk_162 0 26 (dk_at dksX7_pairs_0 19 rfl rfl)
theorem dX7_pairs_22 : decode cX7_pairs 22 = .ok (.iload_n 2, 1) := dk_28 (dk_at dksX7_pairs_0 22 rfl rfl)
theorem dX7_pairs_23 : decode cX7_pairs 23 = .ok (.aload_n 0, 1) := dk_42 (dk_at dksX7_pairs_0 23 rfl rfl)
theorem dX7_pairs_24 : decode cX7_pairs 24 = .ok (.getfield 49, 3) := dk_180 0 49 (dk_at dksX7_pairs_1 0 rfl rfl)
theorem dX7_pairs_27 : decode cX7_pairs 27 = .ok (.iload_n 3, 1) := dk_29 (dk_at dksX7_pairs_1 3 rfl rfl)
theorem dX7_pairs_28 : decode cX7_pairs 28 = .ok (.baload, 1) := dk_51 (dk_at dksX7_pairs_1 4 rfl rfl)
theorem dX7_pairs_29 : decode cX7_pairs 29 = .ok (.ifCond .eq 7, 3) := dk_153 0 7 (dk_at dksX7_pairs_1 5 rfl rfl)
theorem dX7_pairs_32 : decode cX7_pairs 32 = .ok (.iconst 1, 1) := dk_4 (dk_at dksX7_pairs_1 8 rfl rfl)
theorem dX7_pairs_33 : decode cX7_pairs 33 = .ok (.goto 4, 3) := dk_167 0 4 (dk_at dksX7_pairs_1 9 rfl rfl)
theorem dX7_pairs_36 : decode cX7_pairs 36 = .ok (.iconst 0, 1) := dk_3 (dk_at dksX7_pairs_1 12 rfl rfl)
theorem dX7_pairs_37 : decode cX7_pairs 37 = .ok (.iadd, 1) := dk_96 (dk_at dksX7_pairs_1 13 rfl rfl)
theorem dX7_pairs_38 : decode cX7_pairs 38 = .ok (.istore_n 2, 1) := dk_61 (dk_at dksX7_pairs_1 14 rfl rfl)
theorem dX7_pairs_39 : decode cX7_pairs 39 = .ok (.iinc 3 1, 3) := dk_132 3 1 (dk_at dksX7_pairs_1 15 rfl rfl)
theorem dX7_pairs_42 : decode cX7_pairs 42 = .ok (.goto (-27), 3) := dk_167 255 229 (dk_at dksX7_pairs_1 18 rfl rfl)
theorem dX7_pairs_45 : decode cX7_pairs 45 = .ok (.iload_n 2, 1) := dk_28 (dk_at dksX7_pairs_1 21 rfl rfl)
theorem dX7_pairs_46 : decode cX7_pairs 46 = .ok (.ireturn, 1) := dk_172 (dk_at dksX7_pairs_1 22 rfl rfl)
abbrev cX7_safe : ByteArray := prog_22_method_108_code
def yX7_safe : MethodName := ⟨RX7, "safe", "(I)I"⟩
def dkwX7_safe_0 : List UInt8 := [42, 27, 182, 1, 143, 154, 0, 6, 16, 254, 172, 42, 180, 1, 111, 154, 0, 7, 4, 167, 0, 4, 3, 172]
abbrev dktX7_safe_0 : List UInt8 := dkwX7_safe_0 ++ []
theorem dksX7_safe_0 : cX7_safe.data.toList.drop 0 = dktX7_safe_0 := by decide +kernel
theorem dX7_safe_0 : decode cX7_safe 0 = .ok (.aload_n 0, 1) := dk_42 (dk_at dksX7_safe_0 0 rfl rfl)
theorem dX7_safe_1 : decode cX7_safe 1 = .ok (.iload_n 1, 1) := dk_27 (dk_at dksX7_safe_0 1 rfl rfl)
theorem dX7_safe_2 : decode cX7_safe 2 = .ok (.invokevirtual 399, 3) := dk_182 1 143 (dk_at dksX7_safe_0 2 rfl rfl)
theorem dX7_safe_5 : decode cX7_safe 5 = .ok (.ifCond .ne 6, 3) := dk_154 0 6 (dk_at dksX7_safe_0 5 rfl rfl)
theorem dX7_safe_8 : decode cX7_safe 8 = .ok (.bipush (-2), 2) := dk_16 254 (dk_at dksX7_safe_0 8 rfl rfl)
theorem dX7_safe_10 : decode cX7_safe 10 = .ok (.ireturn, 1) := dk_172 (dk_at dksX7_safe_0 10 rfl rfl)
theorem dX7_safe_11 : decode cX7_safe 11 = .ok (.aload_n 0, 1) := dk_42 (dk_at dksX7_safe_0 11 rfl rfl)
theorem dX7_safe_12 : decode cX7_safe 12 = .ok (.getfield 367, 3) := dk_180 1 111 (dk_at dksX7_safe_0 12 rfl rfl)
theorem dX7_safe_15 : decode cX7_safe 15 = .ok (.ifCond .ne 7, 3) := dk_154 0 7 (dk_at dksX7_safe_0 15 rfl rfl)
theorem dX7_safe_18 : decode cX7_safe 18 = .ok (.iconst 1, 1) := dk_4 (dk_at dksX7_safe_0 18 rfl rfl)
theorem dX7_safe_19 : decode cX7_safe 19 = .ok (.goto 4, 3) := dk_167 0 4 (dk_at dksX7_safe_0 19 rfl rfl)
theorem dX7_safe_22 : decode cX7_safe 22 = .ok (.iconst 0, 1) := dk_3 (dk_at dksX7_safe_0 22 rfl rfl)
theorem dX7_safe_23 : decode cX7_safe 23 = .ok (.ireturn, 1) := dk_172 (dk_at dksX7_safe_0 23 rfl rfl)
abbrev cX7_bound : ByteArray := prog_22_method_109_code
def yX7_bound : MethodName := ⟨RX7, "bound", "()I"⟩
def dkwX7_bound_1 : List UInt8 := [132, 1, 255, 167, 255, 241, 27, 172]
abbrev dktX7_bound_1 : List UInt8 := dkwX7_bound_1 ++ []
def dkwX7_bound_0 : List UInt8 := [42, 182, 1, 62, 154, 0, 6, 16, 254, 172, 6, 60, 27, 155, 0, 17, 42, 27, 182, 1, 137, 158, 0, 9]
abbrev dktX7_bound_0 : List UInt8 := dkwX7_bound_0 ++ dktX7_bound_1
theorem dksX7_bound_0 : cX7_bound.data.toList.drop 0 = dktX7_bound_0 := by decide +kernel
theorem dksX7_bound_1 : cX7_bound.data.toList.drop 24 = dktX7_bound_1 := dk_seg dksX7_bound_0 24 rfl rfl
theorem dX7_bound_0 : decode cX7_bound 0 = .ok (.aload_n 0, 1) := dk_42 (dk_at dksX7_bound_0 0 rfl rfl)
theorem dX7_bound_1 : decode cX7_bound 1 = .ok (.invokevirtual 318, 3) := dk_182 1 62 (dk_at dksX7_bound_0 1 rfl rfl)
theorem dX7_bound_4 : decode cX7_bound 4 = .ok (.ifCond .ne 6, 3) := dk_154 0 6 (dk_at dksX7_bound_0 4 rfl rfl)
theorem dX7_bound_7 : decode cX7_bound 7 = .ok (.bipush (-2), 2) := dk_16 254 (dk_at dksX7_bound_0 7 rfl rfl)
theorem dX7_bound_9 : decode cX7_bound 9 = .ok (.ireturn, 1) := dk_172 (dk_at dksX7_bound_0 9 rfl rfl)
theorem dX7_bound_10 : decode cX7_bound 10 = .ok (.iconst 3, 1) := dk_6 (dk_at dksX7_bound_0 10 rfl rfl)
theorem dX7_bound_11 : decode cX7_bound 11 = .ok (.istore_n 1, 1) := dk_60 (dk_at dksX7_bound_0 11 rfl rfl)
theorem dX7_bound_12 : decode cX7_bound 12 = .ok (.iload_n 1, 1) := dk_27 (dk_at dksX7_bound_0 12 rfl rfl)
theorem dX7_bound_13 : decode cX7_bound 13 = .ok (.ifCond .lt 17, 3) := dk_155 0 17 (dk_at dksX7_bound_0 13 rfl rfl)
theorem dX7_bound_16 : decode cX7_bound 16 = .ok (.aload_n 0, 1) := dk_42 (dk_at dksX7_bound_0 16 rfl rfl)
theorem dX7_bound_17 : decode cX7_bound 17 = .ok (.iload_n 1, 1) := dk_27 (dk_at dksX7_bound_0 17 rfl rfl)
theorem dX7_bound_18 : decode cX7_bound 18 = .ok (.invokevirtual 393, 3) := dk_182 1 137 (dk_at dksX7_bound_0 18 rfl rfl)
theorem dX7_bound_21 : decode cX7_bound 21 = .ok (.ifCond .le 9, 3) := dk_158 0 9 (dk_at dksX7_bound_0 21 rfl rfl)
theorem dX7_bound_24 : decode cX7_bound 24 = .ok (.iinc 1 (-1), 3) := dk_132 1 255 (dk_at dksX7_bound_1 0 rfl rfl)
theorem dX7_bound_27 : decode cX7_bound 27 = .ok (.goto (-15), 3) := dk_167 255 241 (dk_at dksX7_bound_1 3 rfl rfl)
theorem dX7_bound_30 : decode cX7_bound 30 = .ok (.iload_n 1, 1) := dk_27 (dk_at dksX7_bound_1 6 rfl rfl)
theorem dX7_bound_31 : decode cX7_bound 31 = .ok (.ireturn, 1) := dk_172 (dk_at dksX7_bound_1 7 rfl rfl)
abbrev cX7_bare : ByteArray := prog_22_method_110_code
def yX7_bare : MethodName := ⟨RX7, "bare", "(I)I"⟩
def dkwX7_bare_2 : List UInt8 := [132, 3, 1, 167, 255, 228, 28, 172]
abbrev dktX7_bare_2 : List UInt8 := dkwX7_bare_2 ++ []
def dkwX7_bare_1 : List UInt8 := [182, 0, 96, 162, 0, 26, 28, 42, 29, 27, 182, 1, 140, 158, 0, 7, 4, 167, 0, 4, 3, 96, 61]
abbrev dktX7_bare_1 : List UInt8 := dkwX7_bare_1 ++ dktX7_bare_2
def dkwX7_bare_0 : List UInt8 := [42, 182, 1, 62, 153, 0, 10, 27, 184, 1, 101, 154, 0, 6, 16, 254, 172, 3, 61, 3, 62, 29, 42]
abbrev dktX7_bare_0 : List UInt8 := dkwX7_bare_0 ++ dktX7_bare_1
theorem dksX7_bare_0 : cX7_bare.data.toList.drop 0 = dktX7_bare_0 := by decide +kernel
theorem dksX7_bare_1 : cX7_bare.data.toList.drop 23 = dktX7_bare_1 := dk_seg dksX7_bare_0 23 rfl rfl
theorem dksX7_bare_2 : cX7_bare.data.toList.drop 46 = dktX7_bare_2 := dk_seg dksX7_bare_1 23 rfl rfl
theorem dX7_bare_0 : decode cX7_bare 0 = .ok (.aload_n 0, 1) := dk_42 (dk_at dksX7_bare_0 0 rfl rfl)
theorem dX7_bare_1 : decode cX7_bare 1 = .ok (.invokevirtual 318, 3) := dk_182 1 62 (dk_at dksX7_bare_0 1 rfl rfl)
theorem dX7_bare_4 : decode cX7_bare 4 = .ok (.ifCond .eq 10, 3) := dk_153 0 10 (dk_at dksX7_bare_0 4 rfl rfl)
theorem dX7_bare_7 : decode cX7_bare 7 = .ok (.iload_n 1, 1) := dk_27 (dk_at dksX7_bare_0 7 rfl rfl)
theorem dX7_bare_8 : decode cX7_bare 8 = .ok (.invokestatic 357, 3) := dk_184 1 101 (dk_at dksX7_bare_0 8 rfl rfl)
theorem dX7_bare_11 : decode cX7_bare 11 = .ok (.ifCond .ne 6, 3) := dk_154 0 6 (dk_at dksX7_bare_0 11 rfl rfl)
theorem dX7_bare_14 : decode cX7_bare 14 = .ok (.bipush (-2), 2) := dk_16 254 (dk_at dksX7_bare_0 14 rfl rfl)
theorem dX7_bare_16 : decode cX7_bare 16 = .ok (.ireturn, 1) := dk_172 (dk_at dksX7_bare_0 16 rfl rfl)
theorem dX7_bare_17 : decode cX7_bare 17 = .ok (.iconst 0, 1) := dk_3 (dk_at dksX7_bare_0 17 rfl rfl)
theorem dX7_bare_18 : decode cX7_bare 18 = .ok (.istore_n 2, 1) := dk_61 (dk_at dksX7_bare_0 18 rfl rfl)
theorem dX7_bare_19 : decode cX7_bare 19 = .ok (.iconst 0, 1) := dk_3 (dk_at dksX7_bare_0 19 rfl rfl)
theorem dX7_bare_20 : decode cX7_bare 20 = .ok (.istore_n 3, 1) := dk_62 (dk_at dksX7_bare_0 20 rfl rfl)
theorem dX7_bare_21 : decode cX7_bare 21 = .ok (.iload_n 3, 1) := dk_29 (dk_at dksX7_bare_0 21 rfl rfl)
theorem dX7_bare_22 : decode cX7_bare 22 = .ok (.aload_n 0, 1) := dk_42 (dk_at dksX7_bare_0 22 rfl rfl)
theorem dX7_bare_23 : decode cX7_bare 23 = .ok (.invokevirtual 96, 3) := dk_182 0 96 (dk_at dksX7_bare_1 0 rfl rfl)
theorem dX7_bare_26 : decode cX7_bare 26 = .ok (.if_icmp .ge 26, 3) := dk_162 0 26 (dk_at dksX7_bare_1 3 rfl rfl)
theorem dX7_bare_29 : decode cX7_bare 29 = .ok (.iload_n 2, 1) := dk_28 (dk_at dksX7_bare_1 6 rfl rfl)
theorem dX7_bare_30 : decode cX7_bare 30 = .ok (.aload_n 0, 1) := dk_42 (dk_at dksX7_bare_1 7 rfl rfl)
theorem dX7_bare_31 : decode cX7_bare 31 = .ok (.iload_n 3, 1) := dk_29 (dk_at dksX7_bare_1 8 rfl rfl)
theorem dX7_bare_32 : decode cX7_bare 32 = .ok (.iload_n 1, 1) := dk_27 (dk_at dksX7_bare_1 9 rfl rfl)
theorem dX7_bare_33 : decode cX7_bare 33 = .ok (.invokevirtual 396, 3) := dk_182 1 140 (dk_at dksX7_bare_1 10 rfl rfl)
theorem dX7_bare_36 : decode cX7_bare 36 = .ok (.ifCond .le 7, 3) := dk_158 0 7 (dk_at dksX7_bare_1 13 rfl rfl)
theorem dX7_bare_39 : decode cX7_bare 39 = .ok (.iconst 1, 1) := dk_4 (dk_at dksX7_bare_1 16 rfl rfl)
theorem dX7_bare_40 : decode cX7_bare 40 = .ok (.goto 4, 3) := dk_167 0 4 (dk_at dksX7_bare_1 17 rfl rfl)
theorem dX7_bare_43 : decode cX7_bare 43 = .ok (.iconst 0, 1) := dk_3 (dk_at dksX7_bare_1 20 rfl rfl)
theorem dX7_bare_44 : decode cX7_bare 44 = .ok (.iadd, 1) := dk_96 (dk_at dksX7_bare_1 21 rfl rfl)
theorem dX7_bare_45 : decode cX7_bare 45 = .ok (.istore_n 2, 1) := dk_61 (dk_at dksX7_bare_1 22 rfl rfl)
theorem dX7_bare_46 : decode cX7_bare 46 = .ok (.iinc 3 1, 3) := dk_132 3 1 (dk_at dksX7_bare_2 0 rfl rfl)
theorem dX7_bare_49 : decode cX7_bare 49 = .ok (.goto (-28), 3) := dk_167 255 228 (dk_at dksX7_bare_2 3 rfl rfl)
theorem dX7_bare_52 : decode cX7_bare 52 = .ok (.iload_n 2, 1) := dk_28 (dk_at dksX7_bare_2 6 rfl rfl)
theorem dX7_bare_53 : decode cX7_bare 53 = .ok (.ireturn, 1) := dk_172 (dk_at dksX7_bare_2 7 rfl rfl)
abbrev cX7_calm : ByteArray := prog_22_method_111_code
def yX7_calm : MethodName := ⟨RX7, "calm", "(I)I"⟩
def dkwX7_calm_2 : List UInt8 := [167, 255, 240, 28, 172]
abbrev dktX7_calm_2 : List UInt8 := dkwX7_calm_2 ++ []
def dkwX7_calm_1 : List UInt8 := [51, 154, 0, 5, 2, 172, 6, 61, 28, 155, 0, 18, 42, 27, 28, 182, 1, 140, 158, 0, 9, 132, 2, 255]
abbrev dktX7_calm_1 : List UInt8 := dkwX7_calm_1 ++ dktX7_calm_2
def dkwX7_calm_0 : List UInt8 := [42, 182, 1, 62, 153, 0, 12, 42, 27, 133, 182, 1, 58, 154, 0, 6, 16, 254, 172, 42, 180, 0, 37, 27]
abbrev dktX7_calm_0 : List UInt8 := dkwX7_calm_0 ++ dktX7_calm_1
theorem dksX7_calm_0 : cX7_calm.data.toList.drop 0 = dktX7_calm_0 := by decide +kernel
theorem dksX7_calm_1 : cX7_calm.data.toList.drop 24 = dktX7_calm_1 := dk_seg dksX7_calm_0 24 rfl rfl
theorem dksX7_calm_2 : cX7_calm.data.toList.drop 48 = dktX7_calm_2 := dk_seg dksX7_calm_1 24 rfl rfl
theorem dX7_calm_0 : decode cX7_calm 0 = .ok (.aload_n 0, 1) := dk_42 (dk_at dksX7_calm_0 0 rfl rfl)
theorem dX7_calm_1 : decode cX7_calm 1 = .ok (.invokevirtual 318, 3) := dk_182 1 62 (dk_at dksX7_calm_0 1 rfl rfl)
theorem dX7_calm_4 : decode cX7_calm 4 = .ok (.ifCond .eq 12, 3) := dk_153 0 12 (dk_at dksX7_calm_0 4 rfl rfl)
theorem dX7_calm_7 : decode cX7_calm 7 = .ok (.aload_n 0, 1) := dk_42 (dk_at dksX7_calm_0 7 rfl rfl)
theorem dX7_calm_8 : decode cX7_calm 8 = .ok (.iload_n 1, 1) := dk_27 (dk_at dksX7_calm_0 8 rfl rfl)
theorem dX7_calm_9 : decode cX7_calm 9 = .ok (.i2l, 1) := dk_133 (dk_at dksX7_calm_0 9 rfl rfl)
theorem dX7_calm_10 : decode cX7_calm 10 = .ok (.invokevirtual 314, 3) := dk_182 1 58 (dk_at dksX7_calm_0 10 rfl rfl)
theorem dX7_calm_13 : decode cX7_calm 13 = .ok (.ifCond .ne 6, 3) := dk_154 0 6 (dk_at dksX7_calm_0 13 rfl rfl)
theorem dX7_calm_16 : decode cX7_calm 16 = .ok (.bipush (-2), 2) := dk_16 254 (dk_at dksX7_calm_0 16 rfl rfl)
theorem dX7_calm_18 : decode cX7_calm 18 = .ok (.ireturn, 1) := dk_172 (dk_at dksX7_calm_0 18 rfl rfl)
theorem dX7_calm_19 : decode cX7_calm 19 = .ok (.aload_n 0, 1) := dk_42 (dk_at dksX7_calm_0 19 rfl rfl)
theorem dX7_calm_20 : decode cX7_calm 20 = .ok (.getfield 37, 3) := dk_180 0 37 (dk_at dksX7_calm_0 20 rfl rfl)
theorem dX7_calm_23 : decode cX7_calm 23 = .ok (.iload_n 1, 1) := dk_27 (dk_at dksX7_calm_0 23 rfl rfl)
theorem dX7_calm_24 : decode cX7_calm 24 = .ok (.baload, 1) := dk_51 (dk_at dksX7_calm_1 0 rfl rfl)
theorem dX7_calm_25 : decode cX7_calm 25 = .ok (.ifCond .ne 5, 3) := dk_154 0 5 (dk_at dksX7_calm_1 1 rfl rfl)
theorem dX7_calm_28 : decode cX7_calm 28 = .ok (.iconst (-1), 1) := dk_2 (dk_at dksX7_calm_1 4 rfl rfl)
theorem dX7_calm_29 : decode cX7_calm 29 = .ok (.ireturn, 1) := dk_172 (dk_at dksX7_calm_1 5 rfl rfl)
theorem dX7_calm_30 : decode cX7_calm 30 = .ok (.iconst 3, 1) := dk_6 (dk_at dksX7_calm_1 6 rfl rfl)
theorem dX7_calm_31 : decode cX7_calm 31 = .ok (.istore_n 2, 1) := dk_61 (dk_at dksX7_calm_1 7 rfl rfl)
theorem dX7_calm_32 : decode cX7_calm 32 = .ok (.iload_n 2, 1) := dk_28 (dk_at dksX7_calm_1 8 rfl rfl)
theorem dX7_calm_33 : decode cX7_calm 33 = .ok (.ifCond .lt 18, 3) := dk_155 0 18 (dk_at dksX7_calm_1 9 rfl rfl)
theorem dX7_calm_36 : decode cX7_calm 36 = .ok (.aload_n 0, 1) := dk_42 (dk_at dksX7_calm_1 12 rfl rfl)
theorem dX7_calm_37 : decode cX7_calm 37 = .ok (.iload_n 1, 1) := dk_27 (dk_at dksX7_calm_1 13 rfl rfl)
theorem dX7_calm_38 : decode cX7_calm 38 = .ok (.iload_n 2, 1) := dk_28 (dk_at dksX7_calm_1 14 rfl rfl)
theorem dX7_calm_39 : decode cX7_calm 39 = .ok (.invokevirtual 396, 3) := dk_182 1 140 (dk_at dksX7_calm_1 15 rfl rfl)
theorem dX7_calm_42 : decode cX7_calm 42 = .ok (.ifCond .le 9, 3) := dk_158 0 9 (dk_at dksX7_calm_1 18 rfl rfl)
theorem dX7_calm_45 : decode cX7_calm 45 = .ok (.iinc 2 (-1), 3) := dk_132 2 255 (dk_at dksX7_calm_1 21 rfl rfl)
theorem dX7_calm_48 : decode cX7_calm 48 = .ok (.goto (-16), 3) := dk_167 255 240 (dk_at dksX7_calm_2 0 rfl rfl)
theorem dX7_calm_51 : decode cX7_calm 51 = .ok (.iload_n 2, 1) := dk_28 (dk_at dksX7_calm_2 3 rfl rfl)
theorem dX7_calm_52 : decode cX7_calm 52 = .ok (.ireturn, 1) := dk_172 (dk_at dksX7_calm_2 4 rfl rfl)
abbrev cX7_hot : ByteArray := prog_22_method_112_code
def yX7_hot : MethodName := ⟨RX7, "hot", "(I)I"⟩
def dkwX7_hot_2 : List UInt8 := [180, 1, 111, 62, 21, 4, 61, 132, 4, 1, 167, 255, 222, 28, 172]
abbrev dktX7_hot_2 : List UInt8 := dkwX7_hot_2 ++ []
def dkwX7_hot_1 : List UInt8 := [21, 4, 42, 182, 0, 96, 162, 0, 31, 42, 21, 4, 27, 182, 1, 140, 29, 163, 0, 6, 167, 0, 11, 42]
abbrev dktX7_hot_1 : List UInt8 := dkwX7_hot_1 ++ dktX7_hot_2
def dkwX7_hot_0 : List UInt8 := [42, 182, 1, 62, 153, 0, 10, 27, 184, 1, 101, 154, 0, 6, 16, 254, 172, 2, 61, 3, 62, 3, 54, 4]
abbrev dktX7_hot_0 : List UInt8 := dkwX7_hot_0 ++ dktX7_hot_1
theorem dksX7_hot_0 : cX7_hot.data.toList.drop 0 = dktX7_hot_0 := by decide +kernel
theorem dksX7_hot_1 : cX7_hot.data.toList.drop 24 = dktX7_hot_1 := dk_seg dksX7_hot_0 24 rfl rfl
theorem dksX7_hot_2 : cX7_hot.data.toList.drop 48 = dktX7_hot_2 := dk_seg dksX7_hot_1 24 rfl rfl
theorem dX7_hot_0 : decode cX7_hot 0 = .ok (.aload_n 0, 1) := dk_42 (dk_at dksX7_hot_0 0 rfl rfl)
theorem dX7_hot_1 : decode cX7_hot 1 = .ok (.invokevirtual 318, 3) := dk_182 1 62 (dk_at dksX7_hot_0 1 rfl rfl)
theorem dX7_hot_4 : decode cX7_hot 4 = .ok (.ifCond .eq 10, 3) := dk_153 0 10 (dk_at dksX7_hot_0 4 rfl rfl)
theorem dX7_hot_7 : decode cX7_hot 7 = .ok (.iload_n 1, 1) := dk_27 (dk_at dksX7_hot_0 7 rfl rfl)
theorem dX7_hot_8 : decode cX7_hot 8 = .ok (.invokestatic 357, 3) := dk_184 1 101 (dk_at dksX7_hot_0 8 rfl rfl)
theorem dX7_hot_11 : decode cX7_hot 11 = .ok (.ifCond .ne 6, 3) := dk_154 0 6 (dk_at dksX7_hot_0 11 rfl rfl)
theorem dX7_hot_14 : decode cX7_hot 14 = .ok (.bipush (-2), 2) := dk_16 254 (dk_at dksX7_hot_0 14 rfl rfl)
theorem dX7_hot_16 : decode cX7_hot 16 = .ok (.ireturn, 1) := dk_172 (dk_at dksX7_hot_0 16 rfl rfl)
theorem dX7_hot_17 : decode cX7_hot 17 = .ok (.iconst (-1), 1) := dk_2 (dk_at dksX7_hot_0 17 rfl rfl)
theorem dX7_hot_18 : decode cX7_hot 18 = .ok (.istore_n 2, 1) := dk_61 (dk_at dksX7_hot_0 18 rfl rfl)
theorem dX7_hot_19 : decode cX7_hot 19 = .ok (.iconst 0, 1) := dk_3 (dk_at dksX7_hot_0 19 rfl rfl)
theorem dX7_hot_20 : decode cX7_hot 20 = .ok (.istore_n 3, 1) := dk_62 (dk_at dksX7_hot_0 20 rfl rfl)
theorem dX7_hot_21 : decode cX7_hot 21 = .ok (.iconst 0, 1) := dk_3 (dk_at dksX7_hot_0 21 rfl rfl)
theorem dX7_hot_22 : decode cX7_hot 22 = .ok (.istore 4, 2) := dk_54 4 (dk_at dksX7_hot_0 22 rfl rfl)
theorem dX7_hot_24 : decode cX7_hot 24 = .ok (.iload 4, 2) := dk_21 4 (dk_at dksX7_hot_1 0 rfl rfl)
theorem dX7_hot_26 : decode cX7_hot 26 = .ok (.aload_n 0, 1) := dk_42 (dk_at dksX7_hot_1 2 rfl rfl)
theorem dX7_hot_27 : decode cX7_hot 27 = .ok (.invokevirtual 96, 3) := dk_182 0 96 (dk_at dksX7_hot_1 3 rfl rfl)
theorem dX7_hot_30 : decode cX7_hot 30 = .ok (.if_icmp .ge 31, 3) := dk_162 0 31 (dk_at dksX7_hot_1 6 rfl rfl)
theorem dX7_hot_33 : decode cX7_hot 33 = .ok (.aload_n 0, 1) := dk_42 (dk_at dksX7_hot_1 9 rfl rfl)
theorem dX7_hot_34 : decode cX7_hot 34 = .ok (.iload 4, 2) := dk_21 4 (dk_at dksX7_hot_1 10 rfl rfl)
theorem dX7_hot_36 : decode cX7_hot 36 = .ok (.iload_n 1, 1) := dk_27 (dk_at dksX7_hot_1 12 rfl rfl)
theorem dX7_hot_37 : decode cX7_hot 37 = .ok (.invokevirtual 396, 3) := dk_182 1 140 (dk_at dksX7_hot_1 13 rfl rfl)
theorem dX7_hot_40 : decode cX7_hot 40 = .ok (.iload_n 3, 1) := dk_29 (dk_at dksX7_hot_1 16 rfl rfl)
theorem dX7_hot_41 : decode cX7_hot 41 = .ok (.if_icmp .gt 6, 3) := dk_163 0 6 (dk_at dksX7_hot_1 17 rfl rfl)
theorem dX7_hot_44 : decode cX7_hot 44 = .ok (.goto 11, 3) := dk_167 0 11 (dk_at dksX7_hot_1 20 rfl rfl)
theorem dX7_hot_47 : decode cX7_hot 47 = .ok (.aload_n 0, 1) := dk_42 (dk_at dksX7_hot_1 23 rfl rfl)
theorem dX7_hot_48 : decode cX7_hot 48 = .ok (.getfield 367, 3) := dk_180 1 111 (dk_at dksX7_hot_2 0 rfl rfl)
theorem dX7_hot_51 : decode cX7_hot 51 = .ok (.istore_n 3, 1) := dk_62 (dk_at dksX7_hot_2 3 rfl rfl)
theorem dX7_hot_52 : decode cX7_hot 52 = .ok (.iload 4, 2) := dk_21 4 (dk_at dksX7_hot_2 4 rfl rfl)
theorem dX7_hot_54 : decode cX7_hot 54 = .ok (.istore_n 2, 1) := dk_61 (dk_at dksX7_hot_2 6 rfl rfl)
theorem dX7_hot_55 : decode cX7_hot 55 = .ok (.iinc 4 1, 3) := dk_132 4 1 (dk_at dksX7_hot_2 7 rfl rfl)
theorem dX7_hot_58 : decode cX7_hot 58 = .ok (.goto (-34), 3) := dk_167 255 222 (dk_at dksX7_hot_2 10 rfl rfl)
theorem dX7_hot_61 : decode cX7_hot 61 = .ok (.iload_n 2, 1) := dk_28 (dk_at dksX7_hot_2 13 rfl rfl)
theorem dX7_hot_62 : decode cX7_hot 62 = .ok (.ireturn, 1) := dk_172 (dk_at dksX7_hot_2 14 rfl rfl)
abbrev cX7_least : ByteArray := prog_22_method_113_code
def yX7_least : MethodName := ⟨RX7, "least", "(II)I"⟩
def dkwX7_least_4 : List UInt8 := [42, 180, 1, 123, 182, 1, 88, 172, 42, 180, 1, 114, 172]
abbrev dktX7_least_4 : List UInt8 := dkwX7_least_4 ++ []
def dkwX7_least_3 : List UInt8 := [42, 180, 1, 117, 172, 42, 180, 1, 120, 172, 42, 180, 1, 123, 172, 42, 42, 180, 1, 117, 42, 180, 1, 120]
abbrev dktX7_least_3 : List UInt8 := dkwX7_least_3 ++ dktX7_least_4
def dkwX7_least_2 : List UInt8 := [170, 0, 0, 0, 0, 0, 63, 0, 0, 0, 0, 0, 0, 0, 3, 0, 0, 0, 31, 0, 0, 0, 36, 0, 0, 0, 41, 0, 0, 0, 46]
abbrev dktX7_least_2 : List UInt8 := dkwX7_least_2 ++ dktX7_least_3
def dkwX7_least_1 : List UInt8 := [180, 1, 111, 154, 0, 5, 2, 172, 28]
abbrev dktX7_least_1 : List UInt8 := dkwX7_least_1 ++ dktX7_least_2
def dkwX7_least_0 : List UInt8 := [42, 27, 182, 1, 143, 153, 0, 15, 28, 133, 9, 20, 1, 3, 184, 0, 76, 154, 0, 6, 16, 254, 172, 42]
abbrev dktX7_least_0 : List UInt8 := dkwX7_least_0 ++ dktX7_least_1
theorem dksX7_least_0 : cX7_least.data.toList.drop 0 = dktX7_least_0 := by decide +kernel
theorem dksX7_least_1 : cX7_least.data.toList.drop 24 = dktX7_least_1 := dk_seg dksX7_least_0 24 rfl rfl
theorem dksX7_least_2 : cX7_least.data.toList.drop 33 = dktX7_least_2 := dk_seg dksX7_least_1 9 rfl rfl
theorem dksX7_least_3 : cX7_least.data.toList.drop 64 = dktX7_least_3 := dk_seg dksX7_least_2 31 rfl rfl
theorem dksX7_least_4 : cX7_least.data.toList.drop 88 = dktX7_least_4 := dk_seg dksX7_least_3 24 rfl rfl
theorem dX7_least_0 : decode cX7_least 0 = .ok (.aload_n 0, 1) := dk_42 (dk_at dksX7_least_0 0 rfl rfl)
theorem dX7_least_1 : decode cX7_least 1 = .ok (.iload_n 1, 1) := dk_27 (dk_at dksX7_least_0 1 rfl rfl)
theorem dX7_least_2 : decode cX7_least 2 = .ok (.invokevirtual 399, 3) := dk_182 1 143 (dk_at dksX7_least_0 2 rfl rfl)
theorem dX7_least_5 : decode cX7_least 5 = .ok (.ifCond .eq 15, 3) := dk_153 0 15 (dk_at dksX7_least_0 5 rfl rfl)
theorem dX7_least_8 : decode cX7_least 8 = .ok (.iload_n 2, 1) := dk_28 (dk_at dksX7_least_0 8 rfl rfl)
theorem dX7_least_9 : decode cX7_least 9 = .ok (.i2l, 1) := dk_133 (dk_at dksX7_least_0 9 rfl rfl)
theorem dX7_least_10 : decode cX7_least 10 = .ok (.lconst 0, 1) := dk_9 (dk_at dksX7_least_0 10 rfl rfl)
theorem dX7_least_11 : decode cX7_least 11 = .ok (.ldc2_w 259, 3) := dk_20 1 3 (dk_at dksX7_least_0 11 rfl rfl)
theorem dX7_least_14 : decode cX7_least 14 = .ok (.invokestatic 76, 3) := dk_184 0 76 (dk_at dksX7_least_0 14 rfl rfl)
theorem dX7_least_17 : decode cX7_least 17 = .ok (.ifCond .ne 6, 3) := dk_154 0 6 (dk_at dksX7_least_0 17 rfl rfl)
theorem dX7_least_20 : decode cX7_least 20 = .ok (.bipush (-2), 2) := dk_16 254 (dk_at dksX7_least_0 20 rfl rfl)
theorem dX7_least_22 : decode cX7_least 22 = .ok (.ireturn, 1) := dk_172 (dk_at dksX7_least_0 22 rfl rfl)
theorem dX7_least_23 : decode cX7_least 23 = .ok (.aload_n 0, 1) := dk_42 (dk_at dksX7_least_0 23 rfl rfl)
theorem dX7_least_24 : decode cX7_least 24 = .ok (.getfield 367, 3) := dk_180 1 111 (dk_at dksX7_least_1 0 rfl rfl)
theorem dX7_least_27 : decode cX7_least 27 = .ok (.ifCond .ne 5, 3) := dk_154 0 5 (dk_at dksX7_least_1 3 rfl rfl)
theorem dX7_least_30 : decode cX7_least 30 = .ok (.iconst (-1), 1) := dk_2 (dk_at dksX7_least_1 6 rfl rfl)
theorem dX7_least_31 : decode cX7_least 31 = .ok (.ireturn, 1) := dk_172 (dk_at dksX7_least_1 7 rfl rfl)
theorem dX7_least_32 : decode cX7_least 32 = .ok (.iload_n 2, 1) := dk_28 (dk_at dksX7_least_1 8 rfl rfl)
theorem dX7_least_33 : decode cX7_least 33 = .ok (.tableswitch 63 0 3 #[31, 36, 41, 46], 31) := by decide +kernel
theorem dX7_least_64 : decode cX7_least 64 = .ok (.aload_n 0, 1) := dk_42 (dk_at dksX7_least_3 0 rfl rfl)
theorem dX7_least_65 : decode cX7_least 65 = .ok (.getfield 373, 3) := dk_180 1 117 (dk_at dksX7_least_3 1 rfl rfl)
theorem dX7_least_68 : decode cX7_least 68 = .ok (.ireturn, 1) := dk_172 (dk_at dksX7_least_3 4 rfl rfl)
theorem dX7_least_69 : decode cX7_least 69 = .ok (.aload_n 0, 1) := dk_42 (dk_at dksX7_least_3 5 rfl rfl)
theorem dX7_least_70 : decode cX7_least 70 = .ok (.getfield 376, 3) := dk_180 1 120 (dk_at dksX7_least_3 6 rfl rfl)
theorem dX7_least_73 : decode cX7_least 73 = .ok (.ireturn, 1) := dk_172 (dk_at dksX7_least_3 9 rfl rfl)
theorem dX7_least_74 : decode cX7_least 74 = .ok (.aload_n 0, 1) := dk_42 (dk_at dksX7_least_3 10 rfl rfl)
theorem dX7_least_75 : decode cX7_least 75 = .ok (.getfield 379, 3) := dk_180 1 123 (dk_at dksX7_least_3 11 rfl rfl)
theorem dX7_least_78 : decode cX7_least 78 = .ok (.ireturn, 1) := dk_172 (dk_at dksX7_least_3 14 rfl rfl)
theorem dX7_least_79 : decode cX7_least 79 = .ok (.aload_n 0, 1) := dk_42 (dk_at dksX7_least_3 15 rfl rfl)
theorem dX7_least_80 : decode cX7_least 80 = .ok (.aload_n 0, 1) := dk_42 (dk_at dksX7_least_3 16 rfl rfl)
theorem dX7_least_81 : decode cX7_least 81 = .ok (.getfield 373, 3) := dk_180 1 117 (dk_at dksX7_least_3 17 rfl rfl)
theorem dX7_least_84 : decode cX7_least 84 = .ok (.aload_n 0, 1) := dk_42 (dk_at dksX7_least_3 20 rfl rfl)
theorem dX7_least_85 : decode cX7_least 85 = .ok (.getfield 376, 3) := dk_180 1 120 (dk_at dksX7_least_3 21 rfl rfl)
theorem dX7_least_88 : decode cX7_least 88 = .ok (.aload_n 0, 1) := dk_42 (dk_at dksX7_least_4 0 rfl rfl)
theorem dX7_least_89 : decode cX7_least 89 = .ok (.getfield 379, 3) := dk_180 1 123 (dk_at dksX7_least_4 1 rfl rfl)
theorem dX7_least_92 : decode cX7_least 92 = .ok (.invokevirtual 344, 3) := dk_182 1 88 (dk_at dksX7_least_4 4 rfl rfl)
theorem dX7_least_95 : decode cX7_least 95 = .ok (.ireturn, 1) := dk_172 (dk_at dksX7_least_4 7 rfl rfl)
theorem dX7_least_96 : decode cX7_least 96 = .ok (.aload_n 0, 1) := dk_42 (dk_at dksX7_least_4 8 rfl rfl)
theorem dX7_least_97 : decode cX7_least 97 = .ok (.getfield 370, 3) := dk_180 1 114 (dk_at dksX7_least_4 9 rfl rfl)
theorem dX7_least_100 : decode cX7_least 100 = .ok (.ireturn, 1) := dk_172 (dk_at dksX7_least_4 12 rfl rfl)
abbrev cX7_culprit : ByteArray := prog_22_method_114_code
def yX7_culprit : MethodName := ⟨RX7, "culprit", "(I)I"⟩
def dkwX7_culprit_1 : List UInt8 := [42, 180, 1, 117, 42, 180, 1, 120, 42, 180, 1, 123, 182, 1, 88, 182, 1, 46, 172]
abbrev dktX7_culprit_1 : List UInt8 := dkwX7_culprit_1 ++ []
def dkwX7_culprit_0 : List UInt8 := [42, 27, 182, 1, 143, 154, 0, 6, 16, 254, 172, 42, 180, 1, 111, 154, 0, 7, 2, 167, 0, 23, 42, 42]
abbrev dktX7_culprit_0 : List UInt8 := dkwX7_culprit_0 ++ dktX7_culprit_1
theorem dksX7_culprit_0 : cX7_culprit.data.toList.drop 0 = dktX7_culprit_0 := by decide +kernel
theorem dksX7_culprit_1 : cX7_culprit.data.toList.drop 24 = dktX7_culprit_1 := dk_seg dksX7_culprit_0 24 rfl rfl
theorem dX7_culprit_0 : decode cX7_culprit 0 = .ok (.aload_n 0, 1) := dk_42 (dk_at dksX7_culprit_0 0 rfl rfl)
theorem dX7_culprit_1 : decode cX7_culprit 1 = .ok (.iload_n 1, 1) := dk_27 (dk_at dksX7_culprit_0 1 rfl rfl)
theorem dX7_culprit_2 : decode cX7_culprit 2 = .ok (.invokevirtual 399, 3) := dk_182 1 143 (dk_at dksX7_culprit_0 2 rfl rfl)
theorem dX7_culprit_5 : decode cX7_culprit 5 = .ok (.ifCond .ne 6, 3) := dk_154 0 6 (dk_at dksX7_culprit_0 5 rfl rfl)
theorem dX7_culprit_8 : decode cX7_culprit 8 = .ok (.bipush (-2), 2) := dk_16 254 (dk_at dksX7_culprit_0 8 rfl rfl)
theorem dX7_culprit_10 : decode cX7_culprit 10 = .ok (.ireturn, 1) := dk_172 (dk_at dksX7_culprit_0 10 rfl rfl)
theorem dX7_culprit_11 : decode cX7_culprit 11 = .ok (.aload_n 0, 1) := dk_42 (dk_at dksX7_culprit_0 11 rfl rfl)
theorem dX7_culprit_12 : decode cX7_culprit 12 = .ok (.getfield 367, 3) := dk_180 1 111 (dk_at dksX7_culprit_0 12 rfl rfl)
theorem dX7_culprit_15 : decode cX7_culprit 15 = .ok (.ifCond .ne 7, 3) := dk_154 0 7 (dk_at dksX7_culprit_0 15 rfl rfl)
theorem dX7_culprit_18 : decode cX7_culprit 18 = .ok (.iconst (-1), 1) := dk_2 (dk_at dksX7_culprit_0 18 rfl rfl)
theorem dX7_culprit_19 : decode cX7_culprit 19 = .ok (.goto 23, 3) := dk_167 0 23 (dk_at dksX7_culprit_0 19 rfl rfl)
theorem dX7_culprit_22 : decode cX7_culprit 22 = .ok (.aload_n 0, 1) := dk_42 (dk_at dksX7_culprit_0 22 rfl rfl)
theorem dX7_culprit_23 : decode cX7_culprit 23 = .ok (.aload_n 0, 1) := dk_42 (dk_at dksX7_culprit_0 23 rfl rfl)
theorem dX7_culprit_24 : decode cX7_culprit 24 = .ok (.aload_n 0, 1) := dk_42 (dk_at dksX7_culprit_1 0 rfl rfl)
theorem dX7_culprit_25 : decode cX7_culprit 25 = .ok (.getfield 373, 3) := dk_180 1 117 (dk_at dksX7_culprit_1 1 rfl rfl)
theorem dX7_culprit_28 : decode cX7_culprit 28 = .ok (.aload_n 0, 1) := dk_42 (dk_at dksX7_culprit_1 4 rfl rfl)
theorem dX7_culprit_29 : decode cX7_culprit 29 = .ok (.getfield 376, 3) := dk_180 1 120 (dk_at dksX7_culprit_1 5 rfl rfl)
theorem dX7_culprit_32 : decode cX7_culprit 32 = .ok (.aload_n 0, 1) := dk_42 (dk_at dksX7_culprit_1 8 rfl rfl)
theorem dX7_culprit_33 : decode cX7_culprit 33 = .ok (.getfield 379, 3) := dk_180 1 123 (dk_at dksX7_culprit_1 9 rfl rfl)
theorem dX7_culprit_36 : decode cX7_culprit 36 = .ok (.invokevirtual 344, 3) := dk_182 1 88 (dk_at dksX7_culprit_1 12 rfl rfl)
theorem dX7_culprit_39 : decode cX7_culprit 39 = .ok (.invokevirtual 302, 3) := dk_182 1 46 (dk_at dksX7_culprit_1 15 rfl rfl)
theorem dX7_culprit_42 : decode cX7_culprit 42 = .ok (.ireturn, 1) := dk_172 (dk_at dksX7_culprit_1 18 rfl rfl)
abbrev cX7_hits : ByteArray := prog_22_method_115_code
def yX7_hits : MethodName := ⟨RX7, "hits", "(II)I"⟩
def dkwX7_hits_1 : List UInt8 := [167, 0, 5, 16, 254, 172]
abbrev dktX7_hits_1 : List UInt8 := dkwX7_hits_1 ++ []
def dkwX7_hits_0 : List UInt8 := [42, 28, 182, 1, 143, 153, 0, 20, 42, 27, 182, 1, 0, 153, 0, 12, 42, 180, 0, 52, 27, 46]
abbrev dktX7_hits_0 : List UInt8 := dkwX7_hits_0 ++ dktX7_hits_1
theorem dksX7_hits_0 : cX7_hits.data.toList.drop 0 = dktX7_hits_0 := by decide +kernel
theorem dksX7_hits_1 : cX7_hits.data.toList.drop 22 = dktX7_hits_1 := dk_seg dksX7_hits_0 22 rfl rfl
theorem dX7_hits_0 : decode cX7_hits 0 = .ok (.aload_n 0, 1) := dk_42 (dk_at dksX7_hits_0 0 rfl rfl)
theorem dX7_hits_1 : decode cX7_hits 1 = .ok (.iload_n 2, 1) := dk_28 (dk_at dksX7_hits_0 1 rfl rfl)
theorem dX7_hits_2 : decode cX7_hits 2 = .ok (.invokevirtual 399, 3) := dk_182 1 143 (dk_at dksX7_hits_0 2 rfl rfl)
theorem dX7_hits_5 : decode cX7_hits 5 = .ok (.ifCond .eq 20, 3) := dk_153 0 20 (dk_at dksX7_hits_0 5 rfl rfl)
theorem dX7_hits_8 : decode cX7_hits 8 = .ok (.aload_n 0, 1) := dk_42 (dk_at dksX7_hits_0 8 rfl rfl)
theorem dX7_hits_9 : decode cX7_hits 9 = .ok (.iload_n 1, 1) := dk_27 (dk_at dksX7_hits_0 9 rfl rfl)
theorem dX7_hits_10 : decode cX7_hits 10 = .ok (.invokevirtual 256, 3) := dk_182 1 0 (dk_at dksX7_hits_0 10 rfl rfl)
theorem dX7_hits_13 : decode cX7_hits 13 = .ok (.ifCond .eq 12, 3) := dk_153 0 12 (dk_at dksX7_hits_0 13 rfl rfl)
theorem dX7_hits_16 : decode cX7_hits 16 = .ok (.aload_n 0, 1) := dk_42 (dk_at dksX7_hits_0 16 rfl rfl)
theorem dX7_hits_17 : decode cX7_hits 17 = .ok (.getfield 52, 3) := dk_180 0 52 (dk_at dksX7_hits_0 17 rfl rfl)
theorem dX7_hits_20 : decode cX7_hits 20 = .ok (.iload_n 1, 1) := dk_27 (dk_at dksX7_hits_0 20 rfl rfl)
theorem dX7_hits_21 : decode cX7_hits 21 = .ok (.iaload, 1) := dk_46 (dk_at dksX7_hits_0 21 rfl rfl)
theorem dX7_hits_22 : decode cX7_hits 22 = .ok (.goto 5, 3) := dk_167 0 5 (dk_at dksX7_hits_1 0 rfl rfl)
theorem dX7_hits_25 : decode cX7_hits 25 = .ok (.bipush (-2), 2) := dk_16 254 (dk_at dksX7_hits_1 3 rfl rfl)
theorem dX7_hits_27 : decode cX7_hits 27 = .ok (.ireturn, 1) := dk_172 (dk_at dksX7_hits_1 5 rfl rfl)
abbrev cX7_worst : ByteArray := prog_22_method_116_code
def yX7_worst : MethodName := ⟨RX7, "worst", "(I)I"⟩
def dkwX7_worst_2 : List UInt8 := [61, 132, 3, 1, 167, 255, 219, 28, 172]
abbrev dktX7_worst_2 : List UInt8 := dkwX7_worst_2 ++ []
def dkwX7_worst_1 : List UInt8 := [180, 0, 52, 29, 46, 28, 2, 160, 0, 7, 3, 167, 0, 9, 42, 180, 0, 52, 28, 46, 164, 0, 5, 29]
abbrev dktX7_worst_1 : List UInt8 := dkwX7_worst_1 ++ dktX7_worst_2
def dkwX7_worst_0 : List UInt8 := [42, 27, 182, 1, 143, 154, 0, 6, 16, 254, 172, 2, 61, 3, 62, 29, 42, 182, 0, 80, 162, 0, 35, 42]
abbrev dktX7_worst_0 : List UInt8 := dkwX7_worst_0 ++ dktX7_worst_1
theorem dksX7_worst_0 : cX7_worst.data.toList.drop 0 = dktX7_worst_0 := by decide +kernel
theorem dksX7_worst_1 : cX7_worst.data.toList.drop 24 = dktX7_worst_1 := dk_seg dksX7_worst_0 24 rfl rfl
theorem dksX7_worst_2 : cX7_worst.data.toList.drop 48 = dktX7_worst_2 := dk_seg dksX7_worst_1 24 rfl rfl
theorem dX7_worst_0 : decode cX7_worst 0 = .ok (.aload_n 0, 1) := dk_42 (dk_at dksX7_worst_0 0 rfl rfl)
theorem dX7_worst_1 : decode cX7_worst 1 = .ok (.iload_n 1, 1) := dk_27 (dk_at dksX7_worst_0 1 rfl rfl)
theorem dX7_worst_2 : decode cX7_worst 2 = .ok (.invokevirtual 399, 3) := dk_182 1 143 (dk_at dksX7_worst_0 2 rfl rfl)
theorem dX7_worst_5 : decode cX7_worst 5 = .ok (.ifCond .ne 6, 3) := dk_154 0 6 (dk_at dksX7_worst_0 5 rfl rfl)
theorem dX7_worst_8 : decode cX7_worst 8 = .ok (.bipush (-2), 2) := dk_16 254 (dk_at dksX7_worst_0 8 rfl rfl)
theorem dX7_worst_10 : decode cX7_worst 10 = .ok (.ireturn, 1) := dk_172 (dk_at dksX7_worst_0 10 rfl rfl)
theorem dX7_worst_11 : decode cX7_worst 11 = .ok (.iconst (-1), 1) := dk_2 (dk_at dksX7_worst_0 11 rfl rfl)
theorem dX7_worst_12 : decode cX7_worst 12 = .ok (.istore_n 2, 1) := dk_61 (dk_at dksX7_worst_0 12 rfl rfl)
theorem dX7_worst_13 : decode cX7_worst 13 = .ok (.iconst 0, 1) := dk_3 (dk_at dksX7_worst_0 13 rfl rfl)
theorem dX7_worst_14 : decode cX7_worst 14 = .ok (.istore_n 3, 1) := dk_62 (dk_at dksX7_worst_0 14 rfl rfl)
theorem dX7_worst_15 : decode cX7_worst 15 = .ok (.iload_n 3, 1) := dk_29 (dk_at dksX7_worst_0 15 rfl rfl)
theorem dX7_worst_16 : decode cX7_worst 16 = .ok (.aload_n 0, 1) := dk_42 (dk_at dksX7_worst_0 16 rfl rfl)
theorem dX7_worst_17 : decode cX7_worst 17 = .ok (.invokevirtual 80, 3) := dk_182 0 80 (dk_at dksX7_worst_0 17 rfl rfl)
theorem dX7_worst_20 : decode cX7_worst 20 = .ok (.if_icmp .ge 35, 3) := dk_162 0 35 (dk_at dksX7_worst_0 20 rfl rfl)
theorem dX7_worst_23 : decode cX7_worst 23 = .ok (.aload_n 0, 1) := dk_42 (dk_at dksX7_worst_0 23 rfl rfl)
theorem dX7_worst_24 : decode cX7_worst 24 = .ok (.getfield 52, 3) := dk_180 0 52 (dk_at dksX7_worst_1 0 rfl rfl)
theorem dX7_worst_27 : decode cX7_worst 27 = .ok (.iload_n 3, 1) := dk_29 (dk_at dksX7_worst_1 3 rfl rfl)
theorem dX7_worst_28 : decode cX7_worst 28 = .ok (.iaload, 1) := dk_46 (dk_at dksX7_worst_1 4 rfl rfl)
theorem dX7_worst_29 : decode cX7_worst 29 = .ok (.iload_n 2, 1) := dk_28 (dk_at dksX7_worst_1 5 rfl rfl)
theorem dX7_worst_30 : decode cX7_worst 30 = .ok (.iconst (-1), 1) := dk_2 (dk_at dksX7_worst_1 6 rfl rfl)
theorem dX7_worst_31 : decode cX7_worst 31 = .ok (.if_icmp .ne 7, 3) := dk_160 0 7 (dk_at dksX7_worst_1 7 rfl rfl)
theorem dX7_worst_34 : decode cX7_worst 34 = .ok (.iconst 0, 1) := dk_3 (dk_at dksX7_worst_1 10 rfl rfl)
theorem dX7_worst_35 : decode cX7_worst 35 = .ok (.goto 9, 3) := dk_167 0 9 (dk_at dksX7_worst_1 11 rfl rfl)
theorem dX7_worst_38 : decode cX7_worst 38 = .ok (.aload_n 0, 1) := dk_42 (dk_at dksX7_worst_1 14 rfl rfl)
theorem dX7_worst_39 : decode cX7_worst 39 = .ok (.getfield 52, 3) := dk_180 0 52 (dk_at dksX7_worst_1 15 rfl rfl)
theorem dX7_worst_42 : decode cX7_worst 42 = .ok (.iload_n 2, 1) := dk_28 (dk_at dksX7_worst_1 18 rfl rfl)
theorem dX7_worst_43 : decode cX7_worst 43 = .ok (.iaload, 1) := dk_46 (dk_at dksX7_worst_1 19 rfl rfl)
theorem dX7_worst_44 : decode cX7_worst 44 = .ok (.if_icmp .le 5, 3) := dk_164 0 5 (dk_at dksX7_worst_1 20 rfl rfl)
theorem dX7_worst_47 : decode cX7_worst 47 = .ok (.iload_n 3, 1) := dk_29 (dk_at dksX7_worst_1 23 rfl rfl)
theorem dX7_worst_48 : decode cX7_worst 48 = .ok (.istore_n 2, 1) := dk_61 (dk_at dksX7_worst_2 0 rfl rfl)
theorem dX7_worst_49 : decode cX7_worst 49 = .ok (.iinc 3 1, 3) := dk_132 3 1 (dk_at dksX7_worst_2 1 rfl rfl)
theorem dX7_worst_52 : decode cX7_worst 52 = .ok (.goto (-37), 3) := dk_167 255 219 (dk_at dksX7_worst_2 4 rfl rfl)
theorem dX7_worst_55 : decode cX7_worst 55 = .ok (.iload_n 2, 1) := dk_28 (dk_at dksX7_worst_2 7 rfl rfl)
theorem dX7_worst_56 : decode cX7_worst 56 = .ok (.ireturn, 1) := dk_172 (dk_at dksX7_worst_2 8 rfl rfl)
abbrev cX7_known : ByteArray := prog_22_method_117_code
def yX7_known : MethodName := ⟨RX7, "known", "(I)I"⟩
def dkwX7_known_2 : List UInt8 := [167, 0, 4, 3, 61, 28, 153, 0, 7, 4, 167, 0, 4, 3, 172]
abbrev dktX7_known_2 : List UInt8 := dkwX7_known_2 ++ []
def dkwX7_known_1 : List UInt8 := [153, 0, 25, 42, 180, 0, 9, 16, 8, 42, 27, 4, 182, 1, 5, 96, 46, 5, 159, 0, 7, 4]
abbrev dktX7_known_1 : List UInt8 := dkwX7_known_1 ++ dktX7_known_2
def dkwX7_known_0 : List UInt8 := [42, 27, 182, 1, 0, 154, 0, 6, 16, 254, 172, 42, 27, 3, 182, 1, 5, 133, 9, 10, 184, 0, 76]
abbrev dktX7_known_0 : List UInt8 := dkwX7_known_0 ++ dktX7_known_1
theorem dksX7_known_0 : cX7_known.data.toList.drop 0 = dktX7_known_0 := by decide +kernel
theorem dksX7_known_1 : cX7_known.data.toList.drop 23 = dktX7_known_1 := dk_seg dksX7_known_0 23 rfl rfl
theorem dksX7_known_2 : cX7_known.data.toList.drop 45 = dktX7_known_2 := dk_seg dksX7_known_1 22 rfl rfl
theorem dX7_known_0 : decode cX7_known 0 = .ok (.aload_n 0, 1) := dk_42 (dk_at dksX7_known_0 0 rfl rfl)
theorem dX7_known_1 : decode cX7_known 1 = .ok (.iload_n 1, 1) := dk_27 (dk_at dksX7_known_0 1 rfl rfl)
theorem dX7_known_2 : decode cX7_known 2 = .ok (.invokevirtual 256, 3) := dk_182 1 0 (dk_at dksX7_known_0 2 rfl rfl)
theorem dX7_known_5 : decode cX7_known 5 = .ok (.ifCond .ne 6, 3) := dk_154 0 6 (dk_at dksX7_known_0 5 rfl rfl)
theorem dX7_known_8 : decode cX7_known 8 = .ok (.bipush (-2), 2) := dk_16 254 (dk_at dksX7_known_0 8 rfl rfl)
theorem dX7_known_10 : decode cX7_known 10 = .ok (.ireturn, 1) := dk_172 (dk_at dksX7_known_0 10 rfl rfl)
theorem dX7_known_11 : decode cX7_known 11 = .ok (.aload_n 0, 1) := dk_42 (dk_at dksX7_known_0 11 rfl rfl)
theorem dX7_known_12 : decode cX7_known 12 = .ok (.iload_n 1, 1) := dk_27 (dk_at dksX7_known_0 12 rfl rfl)
theorem dX7_known_13 : decode cX7_known 13 = .ok (.iconst 0, 1) := dk_3 (dk_at dksX7_known_0 13 rfl rfl)
theorem dX7_known_14 : decode cX7_known 14 = .ok (.invokevirtual 261, 3) := dk_182 1 5 (dk_at dksX7_known_0 14 rfl rfl)
theorem dX7_known_17 : decode cX7_known 17 = .ok (.i2l, 1) := dk_133 (dk_at dksX7_known_0 17 rfl rfl)
theorem dX7_known_18 : decode cX7_known 18 = .ok (.lconst 0, 1) := dk_9 (dk_at dksX7_known_0 18 rfl rfl)
theorem dX7_known_19 : decode cX7_known 19 = .ok (.lconst 1, 1) := dk_10 (dk_at dksX7_known_0 19 rfl rfl)
theorem dX7_known_20 : decode cX7_known 20 = .ok (.invokestatic 76, 3) := dk_184 0 76 (dk_at dksX7_known_0 20 rfl rfl)
theorem dX7_known_23 : decode cX7_known 23 = .ok (.ifCond .eq 25, 3) := dk_153 0 25 (dk_at dksX7_known_1 0 rfl rfl)
theorem dX7_known_26 : decode cX7_known 26 = .ok (.aload_n 0, 1) := dk_42 (dk_at dksX7_known_1 3 rfl rfl)
theorem dX7_known_27 : decode cX7_known 27 = .ok (.getfield 9, 3) := dk_180 0 9 (dk_at dksX7_known_1 4 rfl rfl)
theorem dX7_known_30 : decode cX7_known 30 = .ok (.bipush 8, 2) := dk_16 8 (dk_at dksX7_known_1 7 rfl rfl)
theorem dX7_known_32 : decode cX7_known 32 = .ok (.aload_n 0, 1) := dk_42 (dk_at dksX7_known_1 9 rfl rfl)
theorem dX7_known_33 : decode cX7_known 33 = .ok (.iload_n 1, 1) := dk_27 (dk_at dksX7_known_1 10 rfl rfl)
theorem dX7_known_34 : decode cX7_known 34 = .ok (.iconst 1, 1) := dk_4 (dk_at dksX7_known_1 11 rfl rfl)
theorem dX7_known_35 : decode cX7_known 35 = .ok (.invokevirtual 261, 3) := dk_182 1 5 (dk_at dksX7_known_1 12 rfl rfl)
theorem dX7_known_38 : decode cX7_known 38 = .ok (.iadd, 1) := dk_96 (dk_at dksX7_known_1 15 rfl rfl)
theorem dX7_known_39 : decode cX7_known 39 = .ok (.iaload, 1) := dk_46 (dk_at dksX7_known_1 16 rfl rfl)
theorem dX7_known_40 : decode cX7_known 40 = .ok (.iconst 2, 1) := dk_5 (dk_at dksX7_known_1 17 rfl rfl)
theorem dX7_known_41 : decode cX7_known 41 = .ok (.if_icmp .eq 7, 3) := dk_159 0 7 (dk_at dksX7_known_1 18 rfl rfl)
theorem dX7_known_44 : decode cX7_known 44 = .ok (.iconst 1, 1) := dk_4 (dk_at dksX7_known_1 21 rfl rfl)
theorem dX7_known_45 : decode cX7_known 45 = .ok (.goto 4, 3) := dk_167 0 4 (dk_at dksX7_known_2 0 rfl rfl)
theorem dX7_known_48 : decode cX7_known 48 = .ok (.iconst 0, 1) := dk_3 (dk_at dksX7_known_2 3 rfl rfl)
theorem dX7_known_49 : decode cX7_known 49 = .ok (.istore_n 2, 1) := dk_61 (dk_at dksX7_known_2 4 rfl rfl)
theorem dX7_known_50 : decode cX7_known 50 = .ok (.iload_n 2, 1) := dk_28 (dk_at dksX7_known_2 5 rfl rfl)
theorem dX7_known_51 : decode cX7_known 51 = .ok (.ifCond .eq 7, 3) := dk_153 0 7 (dk_at dksX7_known_2 6 rfl rfl)
theorem dX7_known_54 : decode cX7_known 54 = .ok (.iconst 1, 1) := dk_4 (dk_at dksX7_known_2 9 rfl rfl)
theorem dX7_known_55 : decode cX7_known 55 = .ok (.goto 4, 3) := dk_167 0 4 (dk_at dksX7_known_2 10 rfl rfl)
theorem dX7_known_58 : decode cX7_known 58 = .ok (.iconst 0, 1) := dk_3 (dk_at dksX7_known_2 13 rfl rfl)
theorem dX7_known_59 : decode cX7_known 59 = .ok (.ireturn, 1) := dk_172 (dk_at dksX7_known_2 14 rfl rfl)
abbrev cX7_alone : ByteArray := prog_22_method_119_code
def yX7_alone : MethodName := ⟨RX7, "alone", "(II)I"⟩
def dkwX7_alone_2 : List UInt8 := [167, 0, 4, 3, 172]
abbrev dktX7_alone_2 : List UInt8 := dkwX7_alone_2 ++ []
def dkwX7_alone_1 : List UInt8 := [172, 42, 42, 182, 1, 146, 4, 27, 120, 2, 130, 126, 42, 180, 1, 23, 28, 182, 1, 149, 153, 0, 7, 4]
abbrev dktX7_alone_1 : List UInt8 := dkwX7_alone_1 ++ dktX7_alone_2
def dkwX7_alone_0 : List UInt8 := [42, 182, 1, 62, 153, 0, 18, 42, 27, 182, 1, 0, 153, 0, 10, 28, 184, 1, 101, 154, 0, 6, 16, 254]
abbrev dktX7_alone_0 : List UInt8 := dkwX7_alone_0 ++ dktX7_alone_1
theorem dksX7_alone_0 : cX7_alone.data.toList.drop 0 = dktX7_alone_0 := by decide +kernel
theorem dksX7_alone_1 : cX7_alone.data.toList.drop 24 = dktX7_alone_1 := dk_seg dksX7_alone_0 24 rfl rfl
theorem dksX7_alone_2 : cX7_alone.data.toList.drop 48 = dktX7_alone_2 := dk_seg dksX7_alone_1 24 rfl rfl
theorem dX7_alone_0 : decode cX7_alone 0 = .ok (.aload_n 0, 1) := dk_42 (dk_at dksX7_alone_0 0 rfl rfl)
theorem dX7_alone_1 : decode cX7_alone 1 = .ok (.invokevirtual 318, 3) := dk_182 1 62 (dk_at dksX7_alone_0 1 rfl rfl)
theorem dX7_alone_4 : decode cX7_alone 4 = .ok (.ifCond .eq 18, 3) := dk_153 0 18 (dk_at dksX7_alone_0 4 rfl rfl)
theorem dX7_alone_7 : decode cX7_alone 7 = .ok (.aload_n 0, 1) := dk_42 (dk_at dksX7_alone_0 7 rfl rfl)
theorem dX7_alone_8 : decode cX7_alone 8 = .ok (.iload_n 1, 1) := dk_27 (dk_at dksX7_alone_0 8 rfl rfl)
theorem dX7_alone_9 : decode cX7_alone 9 = .ok (.invokevirtual 256, 3) := dk_182 1 0 (dk_at dksX7_alone_0 9 rfl rfl)
theorem dX7_alone_12 : decode cX7_alone 12 = .ok (.ifCond .eq 10, 3) := dk_153 0 10 (dk_at dksX7_alone_0 12 rfl rfl)
theorem dX7_alone_15 : decode cX7_alone 15 = .ok (.iload_n 2, 1) := dk_28 (dk_at dksX7_alone_0 15 rfl rfl)
theorem dX7_alone_16 : decode cX7_alone 16 = .ok (.invokestatic 357, 3) := dk_184 1 101 (dk_at dksX7_alone_0 16 rfl rfl)
theorem dX7_alone_19 : decode cX7_alone 19 = .ok (.ifCond .ne 6, 3) := dk_154 0 6 (dk_at dksX7_alone_0 19 rfl rfl)
theorem dX7_alone_22 : decode cX7_alone 22 = .ok (.bipush (-2), 2) := dk_16 254 (dk_at dksX7_alone_0 22 rfl rfl)
theorem dX7_alone_24 : decode cX7_alone 24 = .ok (.ireturn, 1) := dk_172 (dk_at dksX7_alone_1 0 rfl rfl)
theorem dX7_alone_25 : decode cX7_alone 25 = .ok (.aload_n 0, 1) := dk_42 (dk_at dksX7_alone_1 1 rfl rfl)
theorem dX7_alone_26 : decode cX7_alone 26 = .ok (.aload_n 0, 1) := dk_42 (dk_at dksX7_alone_1 2 rfl rfl)
theorem dX7_alone_27 : decode cX7_alone 27 = .ok (.invokevirtual 402, 3) := dk_182 1 146 (dk_at dksX7_alone_1 3 rfl rfl)
theorem dX7_alone_30 : decode cX7_alone 30 = .ok (.iconst 1, 1) := dk_4 (dk_at dksX7_alone_1 6 rfl rfl)
theorem dX7_alone_31 : decode cX7_alone 31 = .ok (.iload_n 1, 1) := dk_27 (dk_at dksX7_alone_1 7 rfl rfl)
theorem dX7_alone_32 : decode cX7_alone 32 = .ok (.ishl, 1) := dk_120 (dk_at dksX7_alone_1 8 rfl rfl)
theorem dX7_alone_33 : decode cX7_alone 33 = .ok (.iconst (-1), 1) := dk_2 (dk_at dksX7_alone_1 9 rfl rfl)
theorem dX7_alone_34 : decode cX7_alone 34 = .ok (.ixor, 1) := dk_130 (dk_at dksX7_alone_1 10 rfl rfl)
theorem dX7_alone_35 : decode cX7_alone 35 = .ok (.iand, 1) := dk_126 (dk_at dksX7_alone_1 11 rfl rfl)
theorem dX7_alone_36 : decode cX7_alone 36 = .ok (.aload_n 0, 1) := dk_42 (dk_at dksX7_alone_1 12 rfl rfl)
theorem dX7_alone_37 : decode cX7_alone 37 = .ok (.getfield 279, 3) := dk_180 1 23 (dk_at dksX7_alone_1 13 rfl rfl)
theorem dX7_alone_40 : decode cX7_alone 40 = .ok (.iload_n 2, 1) := dk_28 (dk_at dksX7_alone_1 16 rfl rfl)
theorem dX7_alone_41 : decode cX7_alone 41 = .ok (.invokevirtual 405, 3) := dk_182 1 149 (dk_at dksX7_alone_1 17 rfl rfl)
theorem dX7_alone_44 : decode cX7_alone 44 = .ok (.ifCond .eq 7, 3) := dk_153 0 7 (dk_at dksX7_alone_1 20 rfl rfl)
theorem dX7_alone_47 : decode cX7_alone 47 = .ok (.iconst 1, 1) := dk_4 (dk_at dksX7_alone_1 23 rfl rfl)
theorem dX7_alone_48 : decode cX7_alone 48 = .ok (.goto 4, 3) := dk_167 0 4 (dk_at dksX7_alone_2 0 rfl rfl)
theorem dX7_alone_51 : decode cX7_alone 51 = .ok (.iconst 0, 1) := dk_3 (dk_at dksX7_alone_2 3 rfl rfl)
theorem dX7_alone_52 : decode cX7_alone 52 = .ok (.ireturn, 1) := dk_172 (dk_at dksX7_alone_2 4 rfl rfl)
abbrev cX7_allRules : ByteArray := prog_22_method_12_code
def yX7_allRules : MethodName := ⟨RX7, "allRules", "()I"⟩
def dkwX7_allRules_0 : List UInt8 := [4, 42, 182, 0, 80, 120, 4, 100, 172]
abbrev dktX7_allRules_0 : List UInt8 := dkwX7_allRules_0 ++ []
theorem dksX7_allRules_0 : cX7_allRules.data.toList.drop 0 = dktX7_allRules_0 := by decide +kernel
theorem dX7_allRules_0 : decode cX7_allRules 0 = .ok (.iconst 1, 1) := dk_4 (dk_at dksX7_allRules_0 0 rfl rfl)
theorem dX7_allRules_1 : decode cX7_allRules 1 = .ok (.aload_n 0, 1) := dk_42 (dk_at dksX7_allRules_0 1 rfl rfl)
theorem dX7_allRules_2 : decode cX7_allRules 2 = .ok (.invokevirtual 80, 3) := dk_182 0 80 (dk_at dksX7_allRules_0 2 rfl rfl)
theorem dX7_allRules_5 : decode cX7_allRules 5 = .ok (.ishl, 1) := dk_120 (dk_at dksX7_allRules_0 5 rfl rfl)
theorem dX7_allRules_6 : decode cX7_allRules 6 = .ok (.iconst 1, 1) := dk_4 (dk_at dksX7_allRules_0 6 rfl rfl)
theorem dX7_allRules_7 : decode cX7_allRules 7 = .ok (.isub, 1) := dk_100 (dk_at dksX7_allRules_0 7 rfl rfl)
theorem dX7_allRules_8 : decode cX7_allRules 8 = .ok (.ireturn, 1) := dk_172 (dk_at dksX7_allRules_0 8 rfl rfl)
abbrev cX7_isSafeBy : ByteArray := prog_22_method_118_code
def yX7_isSafeBy : MethodName := ⟨RX7, "isSafeBy", "(III)Z"⟩
def dkwX7_isSafeBy_1 : List UInt8 := [167, 0, 4, 3, 172]
abbrev dktX7_isSafeBy_1 : List UInt8 := dkwX7_isSafeBy_1 ++ []
def dkwX7_isSafeBy_0 : List UInt8 := [42, 27, 181, 1, 26, 42, 28, 181, 1, 23, 42, 182, 1, 55, 42, 29, 182, 1, 137, 154, 0, 7, 4]
abbrev dktX7_isSafeBy_0 : List UInt8 := dkwX7_isSafeBy_0 ++ dktX7_isSafeBy_1
theorem dksX7_isSafeBy_0 : cX7_isSafeBy.data.toList.drop 0 = dktX7_isSafeBy_0 := by decide +kernel
theorem dksX7_isSafeBy_1 : cX7_isSafeBy.data.toList.drop 23 = dktX7_isSafeBy_1 := dk_seg dksX7_isSafeBy_0 23 rfl rfl
theorem dX7_isSafeBy_0 : decode cX7_isSafeBy 0 = .ok (.aload_n 0, 1) := dk_42 (dk_at dksX7_isSafeBy_0 0 rfl rfl)
theorem dX7_isSafeBy_1 : decode cX7_isSafeBy 1 = .ok (.iload_n 1, 1) := dk_27 (dk_at dksX7_isSafeBy_0 1 rfl rfl)
theorem dX7_isSafeBy_2 : decode cX7_isSafeBy 2 = .ok (.putfield 282, 3) := dk_181 1 26 (dk_at dksX7_isSafeBy_0 2 rfl rfl)
theorem dX7_isSafeBy_5 : decode cX7_isSafeBy 5 = .ok (.aload_n 0, 1) := dk_42 (dk_at dksX7_isSafeBy_0 5 rfl rfl)
theorem dX7_isSafeBy_6 : decode cX7_isSafeBy 6 = .ok (.iload_n 2, 1) := dk_28 (dk_at dksX7_isSafeBy_0 6 rfl rfl)
theorem dX7_isSafeBy_7 : decode cX7_isSafeBy 7 = .ok (.putfield 279, 3) := dk_181 1 23 (dk_at dksX7_isSafeBy_0 7 rfl rfl)
theorem dX7_isSafeBy_10 : decode cX7_isSafeBy 10 = .ok (.aload_n 0, 1) := dk_42 (dk_at dksX7_isSafeBy_0 10 rfl rfl)
theorem dX7_isSafeBy_11 : decode cX7_isSafeBy 11 = .ok (.invokevirtual 311, 3) := dk_182 1 55 (dk_at dksX7_isSafeBy_0 11 rfl rfl)
theorem dX7_isSafeBy_14 : decode cX7_isSafeBy 14 = .ok (.aload_n 0, 1) := dk_42 (dk_at dksX7_isSafeBy_0 14 rfl rfl)
theorem dX7_isSafeBy_15 : decode cX7_isSafeBy 15 = .ok (.iload_n 3, 1) := dk_29 (dk_at dksX7_isSafeBy_0 15 rfl rfl)
theorem dX7_isSafeBy_16 : decode cX7_isSafeBy 16 = .ok (.invokevirtual 393, 3) := dk_182 1 137 (dk_at dksX7_isSafeBy_0 16 rfl rfl)
theorem dX7_isSafeBy_19 : decode cX7_isSafeBy 19 = .ok (.ifCond .ne 7, 3) := dk_154 0 7 (dk_at dksX7_isSafeBy_0 19 rfl rfl)
theorem dX7_isSafeBy_22 : decode cX7_isSafeBy 22 = .ok (.iconst 1, 1) := dk_4 (dk_at dksX7_isSafeBy_0 22 rfl rfl)
theorem dX7_isSafeBy_23 : decode cX7_isSafeBy 23 = .ok (.goto 4, 3) := dk_167 0 4 (dk_at dksX7_isSafeBy_1 0 rfl rfl)
theorem dX7_isSafeBy_26 : decode cX7_isSafeBy 26 = .ok (.iconst 0, 1) := dk_3 (dk_at dksX7_isSafeBy_1 3 rfl rfl)
theorem dX7_isSafeBy_27 : decode cX7_isSafeBy 27 = .ok (.ireturn, 1) := dk_172 (dk_at dksX7_isSafeBy_1 4 rfl rfl)
abbrev cX7_fine : ByteArray := prog_22_method_120_code
def yX7_fine : MethodName := ⟨RX7, "fine", "(I)I"⟩
def dkwX7_fine_2 : List UInt8 := [182, 1, 149, 153, 0, 9, 4, 29, 120, 167, 0, 4, 3, 128, 61, 132, 3, 1, 167, 255, 213, 28, 172]
abbrev dktX7_fine_2 : List UInt8 := dkwX7_fine_2 ++ []
def dkwX7_fine_1 : List UInt8 := [182, 0, 80, 162, 0, 41, 28, 42, 42, 182, 1, 146, 4, 29, 120, 2, 130, 126, 42, 180, 1, 23, 27]
abbrev dktX7_fine_1 : List UInt8 := dkwX7_fine_1 ++ dktX7_fine_2
def dkwX7_fine_0 : List UInt8 := [42, 182, 1, 62, 153, 0, 10, 27, 184, 1, 101, 154, 0, 6, 16, 254, 172, 3, 61, 3, 62, 29, 42]
abbrev dktX7_fine_0 : List UInt8 := dkwX7_fine_0 ++ dktX7_fine_1
theorem dksX7_fine_0 : cX7_fine.data.toList.drop 0 = dktX7_fine_0 := by decide +kernel
theorem dksX7_fine_1 : cX7_fine.data.toList.drop 23 = dktX7_fine_1 := dk_seg dksX7_fine_0 23 rfl rfl
theorem dksX7_fine_2 : cX7_fine.data.toList.drop 46 = dktX7_fine_2 := dk_seg dksX7_fine_1 23 rfl rfl
theorem dX7_fine_0 : decode cX7_fine 0 = .ok (.aload_n 0, 1) := dk_42 (dk_at dksX7_fine_0 0 rfl rfl)
theorem dX7_fine_1 : decode cX7_fine 1 = .ok (.invokevirtual 318, 3) := dk_182 1 62 (dk_at dksX7_fine_0 1 rfl rfl)
theorem dX7_fine_4 : decode cX7_fine 4 = .ok (.ifCond .eq 10, 3) := dk_153 0 10 (dk_at dksX7_fine_0 4 rfl rfl)
theorem dX7_fine_7 : decode cX7_fine 7 = .ok (.iload_n 1, 1) := dk_27 (dk_at dksX7_fine_0 7 rfl rfl)
theorem dX7_fine_8 : decode cX7_fine 8 = .ok (.invokestatic 357, 3) := dk_184 1 101 (dk_at dksX7_fine_0 8 rfl rfl)
theorem dX7_fine_11 : decode cX7_fine 11 = .ok (.ifCond .ne 6, 3) := dk_154 0 6 (dk_at dksX7_fine_0 11 rfl rfl)
theorem dX7_fine_14 : decode cX7_fine 14 = .ok (.bipush (-2), 2) := dk_16 254 (dk_at dksX7_fine_0 14 rfl rfl)
theorem dX7_fine_16 : decode cX7_fine 16 = .ok (.ireturn, 1) := dk_172 (dk_at dksX7_fine_0 16 rfl rfl)
theorem dX7_fine_17 : decode cX7_fine 17 = .ok (.iconst 0, 1) := dk_3 (dk_at dksX7_fine_0 17 rfl rfl)
theorem dX7_fine_18 : decode cX7_fine 18 = .ok (.istore_n 2, 1) := dk_61 (dk_at dksX7_fine_0 18 rfl rfl)
theorem dX7_fine_19 : decode cX7_fine 19 = .ok (.iconst 0, 1) := dk_3 (dk_at dksX7_fine_0 19 rfl rfl)
theorem dX7_fine_20 : decode cX7_fine 20 = .ok (.istore_n 3, 1) := dk_62 (dk_at dksX7_fine_0 20 rfl rfl)
theorem dX7_fine_21 : decode cX7_fine 21 = .ok (.iload_n 3, 1) := dk_29 (dk_at dksX7_fine_0 21 rfl rfl)
theorem dX7_fine_22 : decode cX7_fine 22 = .ok (.aload_n 0, 1) := dk_42 (dk_at dksX7_fine_0 22 rfl rfl)
theorem dX7_fine_23 : decode cX7_fine 23 = .ok (.invokevirtual 80, 3) := dk_182 0 80 (dk_at dksX7_fine_1 0 rfl rfl)
theorem dX7_fine_26 : decode cX7_fine 26 = .ok (.if_icmp .ge 41, 3) := dk_162 0 41 (dk_at dksX7_fine_1 3 rfl rfl)
theorem dX7_fine_29 : decode cX7_fine 29 = .ok (.iload_n 2, 1) := dk_28 (dk_at dksX7_fine_1 6 rfl rfl)
theorem dX7_fine_30 : decode cX7_fine 30 = .ok (.aload_n 0, 1) := dk_42 (dk_at dksX7_fine_1 7 rfl rfl)
theorem dX7_fine_31 : decode cX7_fine 31 = .ok (.aload_n 0, 1) := dk_42 (dk_at dksX7_fine_1 8 rfl rfl)
theorem dX7_fine_32 : decode cX7_fine 32 = .ok (.invokevirtual 402, 3) := dk_182 1 146 (dk_at dksX7_fine_1 9 rfl rfl)
theorem dX7_fine_35 : decode cX7_fine 35 = .ok (.iconst 1, 1) := dk_4 (dk_at dksX7_fine_1 12 rfl rfl)
theorem dX7_fine_36 : decode cX7_fine 36 = .ok (.iload_n 3, 1) := dk_29 (dk_at dksX7_fine_1 13 rfl rfl)
theorem dX7_fine_37 : decode cX7_fine 37 = .ok (.ishl, 1) := dk_120 (dk_at dksX7_fine_1 14 rfl rfl)
theorem dX7_fine_38 : decode cX7_fine 38 = .ok (.iconst (-1), 1) := dk_2 (dk_at dksX7_fine_1 15 rfl rfl)
theorem dX7_fine_39 : decode cX7_fine 39 = .ok (.ixor, 1) := dk_130 (dk_at dksX7_fine_1 16 rfl rfl)
theorem dX7_fine_40 : decode cX7_fine 40 = .ok (.iand, 1) := dk_126 (dk_at dksX7_fine_1 17 rfl rfl)
theorem dX7_fine_41 : decode cX7_fine 41 = .ok (.aload_n 0, 1) := dk_42 (dk_at dksX7_fine_1 18 rfl rfl)
theorem dX7_fine_42 : decode cX7_fine 42 = .ok (.getfield 279, 3) := dk_180 1 23 (dk_at dksX7_fine_1 19 rfl rfl)
theorem dX7_fine_45 : decode cX7_fine 45 = .ok (.iload_n 1, 1) := dk_27 (dk_at dksX7_fine_1 22 rfl rfl)
theorem dX7_fine_46 : decode cX7_fine 46 = .ok (.invokevirtual 405, 3) := dk_182 1 149 (dk_at dksX7_fine_2 0 rfl rfl)
theorem dX7_fine_49 : decode cX7_fine 49 = .ok (.ifCond .eq 9, 3) := dk_153 0 9 (dk_at dksX7_fine_2 3 rfl rfl)
theorem dX7_fine_52 : decode cX7_fine 52 = .ok (.iconst 1, 1) := dk_4 (dk_at dksX7_fine_2 6 rfl rfl)
theorem dX7_fine_53 : decode cX7_fine 53 = .ok (.iload_n 3, 1) := dk_29 (dk_at dksX7_fine_2 7 rfl rfl)
theorem dX7_fine_54 : decode cX7_fine 54 = .ok (.ishl, 1) := dk_120 (dk_at dksX7_fine_2 8 rfl rfl)
theorem dX7_fine_55 : decode cX7_fine 55 = .ok (.goto 4, 3) := dk_167 0 4 (dk_at dksX7_fine_2 9 rfl rfl)
theorem dX7_fine_58 : decode cX7_fine 58 = .ok (.iconst 0, 1) := dk_3 (dk_at dksX7_fine_2 12 rfl rfl)
theorem dX7_fine_59 : decode cX7_fine 59 = .ok (.ior, 1) := dk_128 (dk_at dksX7_fine_2 13 rfl rfl)
theorem dX7_fine_60 : decode cX7_fine 60 = .ok (.istore_n 2, 1) := dk_61 (dk_at dksX7_fine_2 14 rfl rfl)
theorem dX7_fine_61 : decode cX7_fine 61 = .ok (.iinc 3 1, 3) := dk_132 3 1 (dk_at dksX7_fine_2 15 rfl rfl)
theorem dX7_fine_64 : decode cX7_fine 64 = .ok (.goto (-43), 3) := dk_167 255 213 (dk_at dksX7_fine_2 18 rfl rfl)
theorem dX7_fine_67 : decode cX7_fine 67 = .ok (.iload_n 2, 1) := dk_28 (dk_at dksX7_fine_2 21 rfl rfl)
theorem dX7_fine_68 : decode cX7_fine 68 = .ok (.ireturn, 1) := dk_172 (dk_at dksX7_fine_2 22 rfl rfl)
abbrev cX7_fewest : ByteArray := prog_22_method_123_code
def yX7_fewest : MethodName := ⟨RX7, "fewest", "(I)I"⟩
def dkwX7_fewest_1 : List UInt8 := [180, 1, 153, 184, 1, 162, 172]
abbrev dktX7_fewest_1 : List UInt8 := dkwX7_fewest_1 ++ []
def dkwX7_fewest_0 : List UInt8 := [42, 27, 182, 1, 168, 154, 0, 6, 16, 254, 172, 42, 180, 1, 153, 2, 160, 0, 7, 2, 167, 0, 10, 42]
abbrev dktX7_fewest_0 : List UInt8 := dkwX7_fewest_0 ++ dktX7_fewest_1
theorem dksX7_fewest_0 : cX7_fewest.data.toList.drop 0 = dktX7_fewest_0 := by decide +kernel
theorem dksX7_fewest_1 : cX7_fewest.data.toList.drop 24 = dktX7_fewest_1 := dk_seg dksX7_fewest_0 24 rfl rfl
theorem dX7_fewest_0 : decode cX7_fewest 0 = .ok (.aload_n 0, 1) := dk_42 (dk_at dksX7_fewest_0 0 rfl rfl)
theorem dX7_fewest_1 : decode cX7_fewest 1 = .ok (.iload_n 1, 1) := dk_27 (dk_at dksX7_fewest_0 1 rfl rfl)
theorem dX7_fewest_2 : decode cX7_fewest 2 = .ok (.invokevirtual 424, 3) := dk_182 1 168 (dk_at dksX7_fewest_0 2 rfl rfl)
theorem dX7_fewest_5 : decode cX7_fewest 5 = .ok (.ifCond .ne 6, 3) := dk_154 0 6 (dk_at dksX7_fewest_0 5 rfl rfl)
theorem dX7_fewest_8 : decode cX7_fewest 8 = .ok (.bipush (-2), 2) := dk_16 254 (dk_at dksX7_fewest_0 8 rfl rfl)
theorem dX7_fewest_10 : decode cX7_fewest 10 = .ok (.ireturn, 1) := dk_172 (dk_at dksX7_fewest_0 10 rfl rfl)
theorem dX7_fewest_11 : decode cX7_fewest 11 = .ok (.aload_n 0, 1) := dk_42 (dk_at dksX7_fewest_0 11 rfl rfl)
theorem dX7_fewest_12 : decode cX7_fewest 12 = .ok (.getfield 409, 3) := dk_180 1 153 (dk_at dksX7_fewest_0 12 rfl rfl)
theorem dX7_fewest_15 : decode cX7_fewest 15 = .ok (.iconst (-1), 1) := dk_2 (dk_at dksX7_fewest_0 15 rfl rfl)
theorem dX7_fewest_16 : decode cX7_fewest 16 = .ok (.if_icmp .ne 7, 3) := dk_160 0 7 (dk_at dksX7_fewest_0 16 rfl rfl)
theorem dX7_fewest_19 : decode cX7_fewest 19 = .ok (.iconst (-1), 1) := dk_2 (dk_at dksX7_fewest_0 19 rfl rfl)
theorem dX7_fewest_20 : decode cX7_fewest 20 = .ok (.goto 10, 3) := dk_167 0 10 (dk_at dksX7_fewest_0 20 rfl rfl)
theorem dX7_fewest_23 : decode cX7_fewest 23 = .ok (.aload_n 0, 1) := dk_42 (dk_at dksX7_fewest_0 23 rfl rfl)
theorem dX7_fewest_24 : decode cX7_fewest 24 = .ok (.getfield 409, 3) := dk_180 1 153 (dk_at dksX7_fewest_1 0 rfl rfl)
theorem dX7_fewest_27 : decode cX7_fewest 27 = .ok (.invokestatic 418, 3) := dk_184 1 162 (dk_at dksX7_fewest_1 3 rfl rfl)
theorem dX7_fewest_30 : decode cX7_fewest 30 = .ok (.ireturn, 1) := dk_172 (dk_at dksX7_fewest_1 6 rfl rfl)
abbrev cX7_asksLocks : ByteArray := prog_22_method_122_code
def yX7_asksLocks : MethodName := ⟨RX7, "asksLocks", "(I)Z"⟩
def dkwX7_asksLocks_0 : List UInt8 := [42, 182, 1, 62, 153, 0, 10, 27, 184, 1, 101, 154, 0, 5, 3, 172, 42, 27, 182, 1, 165, 4, 172]
abbrev dktX7_asksLocks_0 : List UInt8 := dkwX7_asksLocks_0 ++ []
theorem dksX7_asksLocks_0 : cX7_asksLocks.data.toList.drop 0 = dktX7_asksLocks_0 := by decide +kernel
theorem dX7_asksLocks_0 : decode cX7_asksLocks 0 = .ok (.aload_n 0, 1) := dk_42 (dk_at dksX7_asksLocks_0 0 rfl rfl)
theorem dX7_asksLocks_1 : decode cX7_asksLocks 1 = .ok (.invokevirtual 318, 3) := dk_182 1 62 (dk_at dksX7_asksLocks_0 1 rfl rfl)
theorem dX7_asksLocks_4 : decode cX7_asksLocks 4 = .ok (.ifCond .eq 10, 3) := dk_153 0 10 (dk_at dksX7_asksLocks_0 4 rfl rfl)
theorem dX7_asksLocks_7 : decode cX7_asksLocks 7 = .ok (.iload_n 1, 1) := dk_27 (dk_at dksX7_asksLocks_0 7 rfl rfl)
theorem dX7_asksLocks_8 : decode cX7_asksLocks 8 = .ok (.invokestatic 357, 3) := dk_184 1 101 (dk_at dksX7_asksLocks_0 8 rfl rfl)
theorem dX7_asksLocks_11 : decode cX7_asksLocks 11 = .ok (.ifCond .ne 5, 3) := dk_154 0 5 (dk_at dksX7_asksLocks_0 11 rfl rfl)
theorem dX7_asksLocks_14 : decode cX7_asksLocks 14 = .ok (.iconst 0, 1) := dk_3 (dk_at dksX7_asksLocks_0 14 rfl rfl)
theorem dX7_asksLocks_15 : decode cX7_asksLocks 15 = .ok (.ireturn, 1) := dk_172 (dk_at dksX7_asksLocks_0 15 rfl rfl)
theorem dX7_asksLocks_16 : decode cX7_asksLocks 16 = .ok (.aload_n 0, 1) := dk_42 (dk_at dksX7_asksLocks_0 16 rfl rfl)
theorem dX7_asksLocks_17 : decode cX7_asksLocks 17 = .ok (.iload_n 1, 1) := dk_27 (dk_at dksX7_asksLocks_0 17 rfl rfl)
theorem dX7_asksLocks_18 : decode cX7_asksLocks 18 = .ok (.invokevirtual 421, 3) := dk_182 1 165 (dk_at dksX7_asksLocks_0 18 rfl rfl)
theorem dX7_asksLocks_21 : decode cX7_asksLocks 21 = .ok (.iconst 1, 1) := dk_4 (dk_at dksX7_asksLocks_0 21 rfl rfl)
theorem dX7_asksLocks_22 : decode cX7_asksLocks 22 = .ok (.ireturn, 1) := dk_172 (dk_at dksX7_asksLocks_0 22 rfl rfl)
abbrev cX7_findLocks : ByteArray := prog_22_method_121_code
def yX7_findLocks : MethodName := ⟨RX7, "findLocks", "(I)V"⟩
def dkwX7_findLocks_3 : List UInt8 := [162, 0, 8, 42, 28, 181, 1, 153, 132, 2, 1, 167, 255, 192, 177]
abbrev dktX7_findLocks_3 : List UInt8 := dkwX7_findLocks_3 ++ []
def dkwX7_findLocks_2 : List UInt8 := [181, 1, 159, 42, 180, 1, 153, 2, 159, 0, 17, 28, 184, 1, 162, 42, 180, 1, 153, 184, 1, 162]
abbrev dktX7_findLocks_2 : List UInt8 := dkwX7_findLocks_2 ++ dktX7_findLocks_3
def dkwX7_findLocks_1 : List UInt8 := [42, 180, 1, 26, 28, 27, 182, 1, 149, 154, 0, 6, 167, 0, 40, 42, 89, 180, 1, 159, 28, 126]
abbrev dktX7_findLocks_1 : List UInt8 := dkwX7_findLocks_1 ++ dktX7_findLocks_2
def dkwX7_findLocks_0 : List UInt8 := [42, 2, 181, 1, 153, 42, 42, 182, 1, 156, 181, 1, 159, 3, 61, 28, 42, 182, 1, 156, 163, 0, 62, 42]
abbrev dktX7_findLocks_0 : List UInt8 := dkwX7_findLocks_0 ++ dktX7_findLocks_1
theorem dksX7_findLocks_0 : cX7_findLocks.data.toList.drop 0 = dktX7_findLocks_0 := by decide +kernel
theorem dksX7_findLocks_1 : cX7_findLocks.data.toList.drop 24 = dktX7_findLocks_1 := dk_seg dksX7_findLocks_0 24 rfl rfl
theorem dksX7_findLocks_2 : cX7_findLocks.data.toList.drop 46 = dktX7_findLocks_2 := dk_seg dksX7_findLocks_1 22 rfl rfl
theorem dksX7_findLocks_3 : cX7_findLocks.data.toList.drop 68 = dktX7_findLocks_3 := dk_seg dksX7_findLocks_2 22 rfl rfl
theorem dX7_findLocks_0 : decode cX7_findLocks 0 = .ok (.aload_n 0, 1) := dk_42 (dk_at dksX7_findLocks_0 0 rfl rfl)
theorem dX7_findLocks_1 : decode cX7_findLocks 1 = .ok (.iconst (-1), 1) := dk_2 (dk_at dksX7_findLocks_0 1 rfl rfl)
theorem dX7_findLocks_2 : decode cX7_findLocks 2 = .ok (.putfield 409, 3) := dk_181 1 153 (dk_at dksX7_findLocks_0 2 rfl rfl)
theorem dX7_findLocks_5 : decode cX7_findLocks 5 = .ok (.aload_n 0, 1) := dk_42 (dk_at dksX7_findLocks_0 5 rfl rfl)
theorem dX7_findLocks_6 : decode cX7_findLocks 6 = .ok (.aload_n 0, 1) := dk_42 (dk_at dksX7_findLocks_0 6 rfl rfl)
theorem dX7_findLocks_7 : decode cX7_findLocks 7 = .ok (.invokevirtual 412, 3) := dk_182 1 156 (dk_at dksX7_findLocks_0 7 rfl rfl)
theorem dX7_findLocks_10 : decode cX7_findLocks 10 = .ok (.putfield 415, 3) := dk_181 1 159 (dk_at dksX7_findLocks_0 10 rfl rfl)
theorem dX7_findLocks_13 : decode cX7_findLocks 13 = .ok (.iconst 0, 1) := dk_3 (dk_at dksX7_findLocks_0 13 rfl rfl)
theorem dX7_findLocks_14 : decode cX7_findLocks 14 = .ok (.istore_n 2, 1) := dk_61 (dk_at dksX7_findLocks_0 14 rfl rfl)
theorem dX7_findLocks_15 : decode cX7_findLocks 15 = .ok (.iload_n 2, 1) := dk_28 (dk_at dksX7_findLocks_0 15 rfl rfl)
theorem dX7_findLocks_16 : decode cX7_findLocks 16 = .ok (.aload_n 0, 1) := dk_42 (dk_at dksX7_findLocks_0 16 rfl rfl)
theorem dX7_findLocks_17 : decode cX7_findLocks 17 = .ok (.invokevirtual 412, 3) := dk_182 1 156 (dk_at dksX7_findLocks_0 17 rfl rfl)
theorem dX7_findLocks_20 : decode cX7_findLocks 20 = .ok (.if_icmp .gt 62, 3) := dk_163 0 62 (dk_at dksX7_findLocks_0 20 rfl rfl)
theorem dX7_findLocks_23 : decode cX7_findLocks 23 = .ok (.aload_n 0, 1) := dk_42 (dk_at dksX7_findLocks_0 23 rfl rfl)
theorem dX7_findLocks_24 : decode cX7_findLocks 24 = .ok (.aload_n 0, 1) := dk_42 (dk_at dksX7_findLocks_1 0 rfl rfl)
theorem dX7_findLocks_25 : decode cX7_findLocks 25 = .ok (.getfield 282, 3) := dk_180 1 26 (dk_at dksX7_findLocks_1 1 rfl rfl)
theorem dX7_findLocks_28 : decode cX7_findLocks 28 = .ok (.iload_n 2, 1) := dk_28 (dk_at dksX7_findLocks_1 4 rfl rfl)
theorem dX7_findLocks_29 : decode cX7_findLocks 29 = .ok (.iload_n 1, 1) := dk_27 (dk_at dksX7_findLocks_1 5 rfl rfl)
theorem dX7_findLocks_30 : decode cX7_findLocks 30 = .ok (.invokevirtual 405, 3) := dk_182 1 149 (dk_at dksX7_findLocks_1 6 rfl rfl)
theorem dX7_findLocks_33 : decode cX7_findLocks 33 = .ok (.ifCond .ne 6, 3) := dk_154 0 6 (dk_at dksX7_findLocks_1 9 rfl rfl)
theorem dX7_findLocks_36 : decode cX7_findLocks 36 = .ok (.goto 40, 3) := dk_167 0 40 (dk_at dksX7_findLocks_1 12 rfl rfl)
theorem dX7_findLocks_39 : decode cX7_findLocks 39 = .ok (.aload_n 0, 1) := dk_42 (dk_at dksX7_findLocks_1 15 rfl rfl)
theorem dX7_findLocks_40 : decode cX7_findLocks 40 = .ok (.dup, 1) := dk_89 (dk_at dksX7_findLocks_1 16 rfl rfl)
theorem dX7_findLocks_41 : decode cX7_findLocks 41 = .ok (.getfield 415, 3) := dk_180 1 159 (dk_at dksX7_findLocks_1 17 rfl rfl)
theorem dX7_findLocks_44 : decode cX7_findLocks 44 = .ok (.iload_n 2, 1) := dk_28 (dk_at dksX7_findLocks_1 20 rfl rfl)
theorem dX7_findLocks_45 : decode cX7_findLocks 45 = .ok (.iand, 1) := dk_126 (dk_at dksX7_findLocks_1 21 rfl rfl)
theorem dX7_findLocks_46 : decode cX7_findLocks 46 = .ok (.putfield 415, 3) := dk_181 1 159 (dk_at dksX7_findLocks_2 0 rfl rfl)
theorem dX7_findLocks_49 : decode cX7_findLocks 49 = .ok (.aload_n 0, 1) := dk_42 (dk_at dksX7_findLocks_2 3 rfl rfl)
theorem dX7_findLocks_50 : decode cX7_findLocks 50 = .ok (.getfield 409, 3) := dk_180 1 153 (dk_at dksX7_findLocks_2 4 rfl rfl)
theorem dX7_findLocks_53 : decode cX7_findLocks 53 = .ok (.iconst (-1), 1) := dk_2 (dk_at dksX7_findLocks_2 7 rfl rfl)
theorem dX7_findLocks_54 : decode cX7_findLocks 54 = .ok (.if_icmp .eq 17, 3) := dk_159 0 17 (dk_at dksX7_findLocks_2 8 rfl rfl)
theorem dX7_findLocks_57 : decode cX7_findLocks 57 = .ok (.iload_n 2, 1) := dk_28 (dk_at dksX7_findLocks_2 11 rfl rfl)
theorem dX7_findLocks_58 : decode cX7_findLocks 58 = .ok (.invokestatic 418, 3) := dk_184 1 162 (dk_at dksX7_findLocks_2 12 rfl rfl)
theorem dX7_findLocks_61 : decode cX7_findLocks 61 = .ok (.aload_n 0, 1) := dk_42 (dk_at dksX7_findLocks_2 15 rfl rfl)
theorem dX7_findLocks_62 : decode cX7_findLocks 62 = .ok (.getfield 409, 3) := dk_180 1 153 (dk_at dksX7_findLocks_2 16 rfl rfl)
theorem dX7_findLocks_65 : decode cX7_findLocks 65 = .ok (.invokestatic 418, 3) := dk_184 1 162 (dk_at dksX7_findLocks_2 19 rfl rfl)
theorem dX7_findLocks_68 : decode cX7_findLocks 68 = .ok (.if_icmp .ge 8, 3) := dk_162 0 8 (dk_at dksX7_findLocks_3 0 rfl rfl)
theorem dX7_findLocks_71 : decode cX7_findLocks 71 = .ok (.aload_n 0, 1) := dk_42 (dk_at dksX7_findLocks_3 3 rfl rfl)
theorem dX7_findLocks_72 : decode cX7_findLocks 72 = .ok (.iload_n 2, 1) := dk_28 (dk_at dksX7_findLocks_3 4 rfl rfl)
theorem dX7_findLocks_73 : decode cX7_findLocks 73 = .ok (.putfield 409, 3) := dk_181 1 153 (dk_at dksX7_findLocks_3 5 rfl rfl)
theorem dX7_findLocks_76 : decode cX7_findLocks 76 = .ok (.iinc 2 1, 3) := dk_132 2 1 (dk_at dksX7_findLocks_3 8 rfl rfl)
theorem dX7_findLocks_79 : decode cX7_findLocks 79 = .ok (.goto (-64), 3) := dk_167 255 192 (dk_at dksX7_findLocks_3 11 rfl rfl)
theorem dX7_findLocks_82 : decode cX7_findLocks 82 = .ok (.return_, 1) := dk_177 (dk_at dksX7_findLocks_3 14 rfl rfl)
abbrev cX7_allOps : ByteArray := prog_22_method_13_code
def yX7_allOps : MethodName := ⟨RX7, "allOps", "()I"⟩
def dkwX7_allOps_0 : List UInt8 := [4, 42, 182, 0, 84, 120, 4, 100, 172]
abbrev dktX7_allOps_0 : List UInt8 := dkwX7_allOps_0 ++ []
theorem dksX7_allOps_0 : cX7_allOps.data.toList.drop 0 = dktX7_allOps_0 := by decide +kernel
theorem dX7_allOps_0 : decode cX7_allOps 0 = .ok (.iconst 1, 1) := dk_4 (dk_at dksX7_allOps_0 0 rfl rfl)
theorem dX7_allOps_1 : decode cX7_allOps 1 = .ok (.aload_n 0, 1) := dk_42 (dk_at dksX7_allOps_0 1 rfl rfl)
theorem dX7_allOps_2 : decode cX7_allOps 2 = .ok (.invokevirtual 84, 3) := dk_182 0 84 (dk_at dksX7_allOps_0 2 rfl rfl)
theorem dX7_allOps_5 : decode cX7_allOps 5 = .ok (.ishl, 1) := dk_120 (dk_at dksX7_allOps_0 5 rfl rfl)
theorem dX7_allOps_6 : decode cX7_allOps 6 = .ok (.iconst 1, 1) := dk_4 (dk_at dksX7_allOps_0 6 rfl rfl)
theorem dX7_allOps_7 : decode cX7_allOps 7 = .ok (.isub, 1) := dk_100 (dk_at dksX7_allOps_0 7 rfl rfl)
theorem dX7_allOps_8 : decode cX7_allOps 8 = .ok (.ireturn, 1) := dk_172 (dk_at dksX7_allOps_0 8 rfl rfl)
abbrev cX7_bits : ByteArray := prog_22_method_4_code
def yX7_bits : MethodName := ⟨RX7, "bits", "(I)I"⟩
def dkwX7_bits_1 : List UInt8 := [27, 172]
abbrev dktX7_bits_1 : List UInt8 := dkwX7_bits_1 ++ []
def dkwX7_bits_0 : List UInt8 := [3, 60, 3, 61, 28, 16, 16, 162, 0, 17, 27, 26, 28, 122, 4, 126, 96, 60, 132, 2, 1, 167, 255, 239]
abbrev dktX7_bits_0 : List UInt8 := dkwX7_bits_0 ++ dktX7_bits_1
theorem dksX7_bits_0 : cX7_bits.data.toList.drop 0 = dktX7_bits_0 := by decide +kernel
theorem dksX7_bits_1 : cX7_bits.data.toList.drop 24 = dktX7_bits_1 := dk_seg dksX7_bits_0 24 rfl rfl
theorem dX7_bits_0 : decode cX7_bits 0 = .ok (.iconst 0, 1) := dk_3 (dk_at dksX7_bits_0 0 rfl rfl)
theorem dX7_bits_1 : decode cX7_bits 1 = .ok (.istore_n 1, 1) := dk_60 (dk_at dksX7_bits_0 1 rfl rfl)
theorem dX7_bits_2 : decode cX7_bits 2 = .ok (.iconst 0, 1) := dk_3 (dk_at dksX7_bits_0 2 rfl rfl)
theorem dX7_bits_3 : decode cX7_bits 3 = .ok (.istore_n 2, 1) := dk_61 (dk_at dksX7_bits_0 3 rfl rfl)
theorem dX7_bits_4 : decode cX7_bits 4 = .ok (.iload_n 2, 1) := dk_28 (dk_at dksX7_bits_0 4 rfl rfl)
theorem dX7_bits_5 : decode cX7_bits 5 = .ok (.bipush 16, 2) := dk_16 16 (dk_at dksX7_bits_0 5 rfl rfl)
theorem dX7_bits_7 : decode cX7_bits 7 = .ok (.if_icmp .ge 17, 3) := dk_162 0 17 (dk_at dksX7_bits_0 7 rfl rfl)
theorem dX7_bits_10 : decode cX7_bits 10 = .ok (.iload_n 1, 1) := dk_27 (dk_at dksX7_bits_0 10 rfl rfl)
theorem dX7_bits_11 : decode cX7_bits 11 = .ok (.iload_n 0, 1) := dk_26 (dk_at dksX7_bits_0 11 rfl rfl)
theorem dX7_bits_12 : decode cX7_bits 12 = .ok (.iload_n 2, 1) := dk_28 (dk_at dksX7_bits_0 12 rfl rfl)
theorem dX7_bits_13 : decode cX7_bits 13 = .ok (.ishr, 1) := dk_122 (dk_at dksX7_bits_0 13 rfl rfl)
theorem dX7_bits_14 : decode cX7_bits 14 = .ok (.iconst 1, 1) := dk_4 (dk_at dksX7_bits_0 14 rfl rfl)
theorem dX7_bits_15 : decode cX7_bits 15 = .ok (.iand, 1) := dk_126 (dk_at dksX7_bits_0 15 rfl rfl)
theorem dX7_bits_16 : decode cX7_bits 16 = .ok (.iadd, 1) := dk_96 (dk_at dksX7_bits_0 16 rfl rfl)
theorem dX7_bits_17 : decode cX7_bits 17 = .ok (.istore_n 1, 1) := dk_60 (dk_at dksX7_bits_0 17 rfl rfl)
theorem dX7_bits_18 : decode cX7_bits 18 = .ok (.iinc 2 1, 3) := dk_132 2 1 (dk_at dksX7_bits_0 18 rfl rfl)
theorem dX7_bits_21 : decode cX7_bits 21 = .ok (.goto (-17), 3) := dk_167 255 239 (dk_at dksX7_bits_0 21 rfl rfl)
theorem dX7_bits_24 : decode cX7_bits 24 = .ok (.iload_n 1, 1) := dk_27 (dk_at dksX7_bits_1 0 rfl rfl)
theorem dX7_bits_25 : decode cX7_bits 25 = .ok (.ireturn, 1) := dk_172 (dk_at dksX7_bits_1 1 rfl rfl)
abbrev cX7_locks : ByteArray := prog_22_method_124_code
def yX7_locks : MethodName := ⟨RX7, "locks", "(I)I"⟩
def dkwX7_locks_0 : List UInt8 := [42, 27, 182, 1, 168, 153, 0, 10, 42, 180, 1, 153, 167, 0, 5, 16, 254, 172]
abbrev dktX7_locks_0 : List UInt8 := dkwX7_locks_0 ++ []
theorem dksX7_locks_0 : cX7_locks.data.toList.drop 0 = dktX7_locks_0 := by decide +kernel
theorem dX7_locks_0 : decode cX7_locks 0 = .ok (.aload_n 0, 1) := dk_42 (dk_at dksX7_locks_0 0 rfl rfl)
theorem dX7_locks_1 : decode cX7_locks 1 = .ok (.iload_n 1, 1) := dk_27 (dk_at dksX7_locks_0 1 rfl rfl)
theorem dX7_locks_2 : decode cX7_locks 2 = .ok (.invokevirtual 424, 3) := dk_182 1 168 (dk_at dksX7_locks_0 2 rfl rfl)
theorem dX7_locks_5 : decode cX7_locks 5 = .ok (.ifCond .eq 10, 3) := dk_153 0 10 (dk_at dksX7_locks_0 5 rfl rfl)
theorem dX7_locks_8 : decode cX7_locks 8 = .ok (.aload_n 0, 1) := dk_42 (dk_at dksX7_locks_0 8 rfl rfl)
theorem dX7_locks_9 : decode cX7_locks 9 = .ok (.getfield 409, 3) := dk_180 1 153 (dk_at dksX7_locks_0 9 rfl rfl)
theorem dX7_locks_12 : decode cX7_locks 12 = .ok (.goto 5, 3) := dk_167 0 5 (dk_at dksX7_locks_0 12 rfl rfl)
theorem dX7_locks_15 : decode cX7_locks 15 = .ok (.bipush (-2), 2) := dk_16 254 (dk_at dksX7_locks_0 15 rfl rfl)
theorem dX7_locks_17 : decode cX7_locks 17 = .ok (.ireturn, 1) := dk_172 (dk_at dksX7_locks_0 17 rfl rfl)
abbrev cX7_needed : ByteArray := prog_22_method_125_code
def yX7_needed : MethodName := ⟨RX7, "needed", "(I)I"⟩
def dkwX7_needed_0 : List UInt8 := [42, 27, 182, 1, 168, 153, 0, 10, 42, 180, 1, 159, 167, 0, 5, 16, 254, 172]
abbrev dktX7_needed_0 : List UInt8 := dkwX7_needed_0 ++ []
theorem dksX7_needed_0 : cX7_needed.data.toList.drop 0 = dktX7_needed_0 := by decide +kernel
theorem dX7_needed_0 : decode cX7_needed 0 = .ok (.aload_n 0, 1) := dk_42 (dk_at dksX7_needed_0 0 rfl rfl)
theorem dX7_needed_1 : decode cX7_needed 1 = .ok (.iload_n 1, 1) := dk_27 (dk_at dksX7_needed_0 1 rfl rfl)
theorem dX7_needed_2 : decode cX7_needed 2 = .ok (.invokevirtual 424, 3) := dk_182 1 168 (dk_at dksX7_needed_0 2 rfl rfl)
theorem dX7_needed_5 : decode cX7_needed 5 = .ok (.ifCond .eq 10, 3) := dk_153 0 10 (dk_at dksX7_needed_0 5 rfl rfl)
theorem dX7_needed_8 : decode cX7_needed 8 = .ok (.aload_n 0, 1) := dk_42 (dk_at dksX7_needed_0 8 rfl rfl)
theorem dX7_needed_9 : decode cX7_needed 9 = .ok (.getfield 415, 3) := dk_180 1 159 (dk_at dksX7_needed_0 9 rfl rfl)
theorem dX7_needed_12 : decode cX7_needed 12 = .ok (.goto 5, 3) := dk_167 0 5 (dk_at dksX7_needed_0 12 rfl rfl)
theorem dX7_needed_15 : decode cX7_needed 15 = .ok (.bipush (-2), 2) := dk_16 254 (dk_at dksX7_needed_0 15 rfl rfl)
theorem dX7_needed_17 : decode cX7_needed 17 = .ok (.ireturn, 1) := dk_172 (dk_at dksX7_needed_0 17 rfl rfl)
abbrev cX7_blame : ByteArray := prog_22_method_127_code
def yX7_blame : MethodName := ⟨RX7, "blame", "()I"⟩
def dkwX7_blame_2 : List UInt8 := [21, 5, 28, 161, 0, 6, 167, 0, 9, 21, 5, 61, 21, 4, 62, 132, 4, 1, 167, 255, 217, 29, 172]
abbrev dktX7_blame_2 : List UInt8 := dkwX7_blame_2 ++ []
def dkwX7_blame_1 : List UInt8 := [54, 4, 21, 4, 42, 182, 0, 80, 162, 0, 36, 42, 27, 4, 21, 4, 120, 128, 182, 1, 171, 54, 5]
abbrev dktX7_blame_1 : List UInt8 := dkwX7_blame_1 ++ dktX7_blame_2
def dkwX7_blame_0 : List UInt8 := [42, 182, 1, 62, 154, 0, 6, 16, 254, 172, 42, 180, 1, 26, 60, 42, 4, 182, 1, 137, 61, 2, 62, 3]
abbrev dktX7_blame_0 : List UInt8 := dkwX7_blame_0 ++ dktX7_blame_1
theorem dksX7_blame_0 : cX7_blame.data.toList.drop 0 = dktX7_blame_0 := by decide +kernel
theorem dksX7_blame_1 : cX7_blame.data.toList.drop 24 = dktX7_blame_1 := dk_seg dksX7_blame_0 24 rfl rfl
theorem dksX7_blame_2 : cX7_blame.data.toList.drop 47 = dktX7_blame_2 := dk_seg dksX7_blame_1 23 rfl rfl
theorem dX7_blame_0 : decode cX7_blame 0 = .ok (.aload_n 0, 1) := dk_42 (dk_at dksX7_blame_0 0 rfl rfl)
theorem dX7_blame_1 : decode cX7_blame 1 = .ok (.invokevirtual 318, 3) := dk_182 1 62 (dk_at dksX7_blame_0 1 rfl rfl)
theorem dX7_blame_4 : decode cX7_blame 4 = .ok (.ifCond .ne 6, 3) := dk_154 0 6 (dk_at dksX7_blame_0 4 rfl rfl)
theorem dX7_blame_7 : decode cX7_blame 7 = .ok (.bipush (-2), 2) := dk_16 254 (dk_at dksX7_blame_0 7 rfl rfl)
theorem dX7_blame_9 : decode cX7_blame 9 = .ok (.ireturn, 1) := dk_172 (dk_at dksX7_blame_0 9 rfl rfl)
theorem dX7_blame_10 : decode cX7_blame 10 = .ok (.aload_n 0, 1) := dk_42 (dk_at dksX7_blame_0 10 rfl rfl)
theorem dX7_blame_11 : decode cX7_blame 11 = .ok (.getfield 282, 3) := dk_180 1 26 (dk_at dksX7_blame_0 11 rfl rfl)
theorem dX7_blame_14 : decode cX7_blame 14 = .ok (.istore_n 1, 1) := dk_60 (dk_at dksX7_blame_0 14 rfl rfl)
theorem dX7_blame_15 : decode cX7_blame 15 = .ok (.aload_n 0, 1) := dk_42 (dk_at dksX7_blame_0 15 rfl rfl)
theorem dX7_blame_16 : decode cX7_blame 16 = .ok (.iconst 1, 1) := dk_4 (dk_at dksX7_blame_0 16 rfl rfl)
theorem dX7_blame_17 : decode cX7_blame 17 = .ok (.invokevirtual 393, 3) := dk_182 1 137 (dk_at dksX7_blame_0 17 rfl rfl)
theorem dX7_blame_20 : decode cX7_blame 20 = .ok (.istore_n 2, 1) := dk_61 (dk_at dksX7_blame_0 20 rfl rfl)
theorem dX7_blame_21 : decode cX7_blame 21 = .ok (.iconst (-1), 1) := dk_2 (dk_at dksX7_blame_0 21 rfl rfl)
theorem dX7_blame_22 : decode cX7_blame 22 = .ok (.istore_n 3, 1) := dk_62 (dk_at dksX7_blame_0 22 rfl rfl)
theorem dX7_blame_23 : decode cX7_blame 23 = .ok (.iconst 0, 1) := dk_3 (dk_at dksX7_blame_0 23 rfl rfl)
theorem dX7_blame_24 : decode cX7_blame 24 = .ok (.istore 4, 2) := dk_54 4 (dk_at dksX7_blame_1 0 rfl rfl)
theorem dX7_blame_26 : decode cX7_blame 26 = .ok (.iload 4, 2) := dk_21 4 (dk_at dksX7_blame_1 2 rfl rfl)
theorem dX7_blame_28 : decode cX7_blame 28 = .ok (.aload_n 0, 1) := dk_42 (dk_at dksX7_blame_1 4 rfl rfl)
theorem dX7_blame_29 : decode cX7_blame 29 = .ok (.invokevirtual 80, 3) := dk_182 0 80 (dk_at dksX7_blame_1 5 rfl rfl)
theorem dX7_blame_32 : decode cX7_blame 32 = .ok (.if_icmp .ge 36, 3) := dk_162 0 36 (dk_at dksX7_blame_1 8 rfl rfl)
theorem dX7_blame_35 : decode cX7_blame 35 = .ok (.aload_n 0, 1) := dk_42 (dk_at dksX7_blame_1 11 rfl rfl)
theorem dX7_blame_36 : decode cX7_blame 36 = .ok (.iload_n 1, 1) := dk_27 (dk_at dksX7_blame_1 12 rfl rfl)
theorem dX7_blame_37 : decode cX7_blame 37 = .ok (.iconst 1, 1) := dk_4 (dk_at dksX7_blame_1 13 rfl rfl)
theorem dX7_blame_38 : decode cX7_blame 38 = .ok (.iload 4, 2) := dk_21 4 (dk_at dksX7_blame_1 14 rfl rfl)
theorem dX7_blame_40 : decode cX7_blame 40 = .ok (.ishl, 1) := dk_120 (dk_at dksX7_blame_1 16 rfl rfl)
theorem dX7_blame_41 : decode cX7_blame 41 = .ok (.ior, 1) := dk_128 (dk_at dksX7_blame_1 17 rfl rfl)
theorem dX7_blame_42 : decode cX7_blame 42 = .ok (.invokevirtual 427, 3) := dk_182 1 171 (dk_at dksX7_blame_1 18 rfl rfl)
theorem dX7_blame_45 : decode cX7_blame 45 = .ok (.istore 5, 2) := dk_54 5 (dk_at dksX7_blame_1 21 rfl rfl)
theorem dX7_blame_47 : decode cX7_blame 47 = .ok (.iload 5, 2) := dk_21 5 (dk_at dksX7_blame_2 0 rfl rfl)
theorem dX7_blame_49 : decode cX7_blame 49 = .ok (.iload_n 2, 1) := dk_28 (dk_at dksX7_blame_2 2 rfl rfl)
theorem dX7_blame_50 : decode cX7_blame 50 = .ok (.if_icmp .lt 6, 3) := dk_161 0 6 (dk_at dksX7_blame_2 3 rfl rfl)
theorem dX7_blame_53 : decode cX7_blame 53 = .ok (.goto 9, 3) := dk_167 0 9 (dk_at dksX7_blame_2 6 rfl rfl)
theorem dX7_blame_56 : decode cX7_blame 56 = .ok (.iload 5, 2) := dk_21 5 (dk_at dksX7_blame_2 9 rfl rfl)
theorem dX7_blame_58 : decode cX7_blame 58 = .ok (.istore_n 2, 1) := dk_61 (dk_at dksX7_blame_2 11 rfl rfl)
theorem dX7_blame_59 : decode cX7_blame 59 = .ok (.iload 4, 2) := dk_21 4 (dk_at dksX7_blame_2 12 rfl rfl)
theorem dX7_blame_61 : decode cX7_blame 61 = .ok (.istore_n 3, 1) := dk_62 (dk_at dksX7_blame_2 14 rfl rfl)
theorem dX7_blame_62 : decode cX7_blame 62 = .ok (.iinc 4 1, 3) := dk_132 4 1 (dk_at dksX7_blame_2 15 rfl rfl)
theorem dX7_blame_65 : decode cX7_blame 65 = .ok (.goto (-39), 3) := dk_167 255 217 (dk_at dksX7_blame_2 18 rfl rfl)
theorem dX7_blame_68 : decode cX7_blame 68 = .ok (.iload_n 3, 1) := dk_29 (dk_at dksX7_blame_2 21 rfl rfl)
theorem dX7_blame_69 : decode cX7_blame 69 = .ok (.ireturn, 1) := dk_172 (dk_at dksX7_blame_2 22 rfl rfl)
abbrev cX7_breaksBy : ByteArray := prog_22_method_126_code
def yX7_breaksBy : MethodName := ⟨RX7, "breaksBy", "(I)I"⟩
def dkwX7_breaksBy_0 : List UInt8 := [42, 27, 181, 1, 26, 42, 182, 1, 55, 42, 4, 182, 1, 137, 172]
abbrev dktX7_breaksBy_0 : List UInt8 := dkwX7_breaksBy_0 ++ []
theorem dksX7_breaksBy_0 : cX7_breaksBy.data.toList.drop 0 = dktX7_breaksBy_0 := by decide +kernel
theorem dX7_breaksBy_0 : decode cX7_breaksBy 0 = .ok (.aload_n 0, 1) := dk_42 (dk_at dksX7_breaksBy_0 0 rfl rfl)
theorem dX7_breaksBy_1 : decode cX7_breaksBy 1 = .ok (.iload_n 1, 1) := dk_27 (dk_at dksX7_breaksBy_0 1 rfl rfl)
theorem dX7_breaksBy_2 : decode cX7_breaksBy 2 = .ok (.putfield 282, 3) := dk_181 1 26 (dk_at dksX7_breaksBy_0 2 rfl rfl)
theorem dX7_breaksBy_5 : decode cX7_breaksBy 5 = .ok (.aload_n 0, 1) := dk_42 (dk_at dksX7_breaksBy_0 5 rfl rfl)
theorem dX7_breaksBy_6 : decode cX7_breaksBy 6 = .ok (.invokevirtual 311, 3) := dk_182 1 55 (dk_at dksX7_breaksBy_0 6 rfl rfl)
theorem dX7_breaksBy_9 : decode cX7_breaksBy 9 = .ok (.aload_n 0, 1) := dk_42 (dk_at dksX7_breaksBy_0 9 rfl rfl)
theorem dX7_breaksBy_10 : decode cX7_breaksBy 10 = .ok (.iconst 1, 1) := dk_4 (dk_at dksX7_breaksBy_0 10 rfl rfl)
theorem dX7_breaksBy_11 : decode cX7_breaksBy 11 = .ok (.invokevirtual 393, 3) := dk_182 1 137 (dk_at dksX7_breaksBy_0 11 rfl rfl)
theorem dX7_breaksBy_14 : decode cX7_breaksBy 14 = .ok (.ireturn, 1) := dk_172 (dk_at dksX7_breaksBy_0 14 rfl rfl)
abbrev cX7_cure : ByteArray := prog_22_method_128_code
def yX7_cure : MethodName := ⟨RX7, "cure", "()I"⟩
def dkwX7_cure_4 : List UInt8 := [79, 132, 3, 1, 167, 255, 179, 28, 172]
abbrev dktX7_cure_4 : List UInt8 := dkwX7_cure_4 ++ []
def dkwX7_cure_3 : List UInt8 := [21, 6, 60, 16, 10, 29, 104, 21, 5, 96, 61, 132, 5, 1, 167, 255, 212, 42, 180, 0, 34, 29, 21, 4]
abbrev dktX7_cure_3 : List UInt8 := dkwX7_cure_3 ++ dktX7_cure_4
def dkwX7_cure_2 : List UInt8 := [180, 0, 34, 29, 21, 5, 79, 42, 4, 182, 1, 137, 54, 6, 21, 6, 27, 161, 0, 6, 167, 0, 14]
abbrev dktX7_cure_2 : List UInt8 := dkwX7_cure_2 ++ dktX7_cure_3
def dkwX7_cure_1 : List UInt8 := [182, 0, 87, 162, 0, 75, 42, 180, 0, 34, 29, 46, 54, 4, 3, 54, 5, 21, 5, 7, 162, 0, 44, 42]
abbrev dktX7_cure_1 : List UInt8 := dkwX7_cure_1 ++ dktX7_cure_2
def dkwX7_cure_0 : List UInt8 := [42, 182, 1, 62, 154, 0, 6, 16, 254, 172, 42, 4, 182, 1, 137, 60, 2, 61, 3, 62, 29, 42]
abbrev dktX7_cure_0 : List UInt8 := dkwX7_cure_0 ++ dktX7_cure_1
theorem dksX7_cure_0 : cX7_cure.data.toList.drop 0 = dktX7_cure_0 := by decide +kernel
theorem dksX7_cure_1 : cX7_cure.data.toList.drop 22 = dktX7_cure_1 := dk_seg dksX7_cure_0 22 rfl rfl
theorem dksX7_cure_2 : cX7_cure.data.toList.drop 46 = dktX7_cure_2 := dk_seg dksX7_cure_1 24 rfl rfl
theorem dksX7_cure_3 : cX7_cure.data.toList.drop 69 = dktX7_cure_3 := dk_seg dksX7_cure_2 23 rfl rfl
theorem dksX7_cure_4 : cX7_cure.data.toList.drop 93 = dktX7_cure_4 := dk_seg dksX7_cure_3 24 rfl rfl
theorem dX7_cure_0 : decode cX7_cure 0 = .ok (.aload_n 0, 1) := dk_42 (dk_at dksX7_cure_0 0 rfl rfl)
theorem dX7_cure_1 : decode cX7_cure 1 = .ok (.invokevirtual 318, 3) := dk_182 1 62 (dk_at dksX7_cure_0 1 rfl rfl)
theorem dX7_cure_4 : decode cX7_cure 4 = .ok (.ifCond .ne 6, 3) := dk_154 0 6 (dk_at dksX7_cure_0 4 rfl rfl)
theorem dX7_cure_7 : decode cX7_cure 7 = .ok (.bipush (-2), 2) := dk_16 254 (dk_at dksX7_cure_0 7 rfl rfl)
theorem dX7_cure_9 : decode cX7_cure 9 = .ok (.ireturn, 1) := dk_172 (dk_at dksX7_cure_0 9 rfl rfl)
theorem dX7_cure_10 : decode cX7_cure 10 = .ok (.aload_n 0, 1) := dk_42 (dk_at dksX7_cure_0 10 rfl rfl)
theorem dX7_cure_11 : decode cX7_cure 11 = .ok (.iconst 1, 1) := dk_4 (dk_at dksX7_cure_0 11 rfl rfl)
theorem dX7_cure_12 : decode cX7_cure 12 = .ok (.invokevirtual 393, 3) := dk_182 1 137 (dk_at dksX7_cure_0 12 rfl rfl)
theorem dX7_cure_15 : decode cX7_cure 15 = .ok (.istore_n 1, 1) := dk_60 (dk_at dksX7_cure_0 15 rfl rfl)
theorem dX7_cure_16 : decode cX7_cure 16 = .ok (.iconst (-1), 1) := dk_2 (dk_at dksX7_cure_0 16 rfl rfl)
theorem dX7_cure_17 : decode cX7_cure 17 = .ok (.istore_n 2, 1) := dk_61 (dk_at dksX7_cure_0 17 rfl rfl)
theorem dX7_cure_18 : decode cX7_cure 18 = .ok (.iconst 0, 1) := dk_3 (dk_at dksX7_cure_0 18 rfl rfl)
theorem dX7_cure_19 : decode cX7_cure 19 = .ok (.istore_n 3, 1) := dk_62 (dk_at dksX7_cure_0 19 rfl rfl)
theorem dX7_cure_20 : decode cX7_cure 20 = .ok (.iload_n 3, 1) := dk_29 (dk_at dksX7_cure_0 20 rfl rfl)
theorem dX7_cure_21 : decode cX7_cure 21 = .ok (.aload_n 0, 1) := dk_42 (dk_at dksX7_cure_0 21 rfl rfl)
theorem dX7_cure_22 : decode cX7_cure 22 = .ok (.invokevirtual 87, 3) := dk_182 0 87 (dk_at dksX7_cure_1 0 rfl rfl)
theorem dX7_cure_25 : decode cX7_cure 25 = .ok (.if_icmp .ge 75, 3) := dk_162 0 75 (dk_at dksX7_cure_1 3 rfl rfl)
theorem dX7_cure_28 : decode cX7_cure 28 = .ok (.aload_n 0, 1) := dk_42 (dk_at dksX7_cure_1 6 rfl rfl)
theorem dX7_cure_29 : decode cX7_cure 29 = .ok (.getfield 34, 3) := dk_180 0 34 (dk_at dksX7_cure_1 7 rfl rfl)
theorem dX7_cure_32 : decode cX7_cure 32 = .ok (.iload_n 3, 1) := dk_29 (dk_at dksX7_cure_1 10 rfl rfl)
theorem dX7_cure_33 : decode cX7_cure 33 = .ok (.iaload, 1) := dk_46 (dk_at dksX7_cure_1 11 rfl rfl)
theorem dX7_cure_34 : decode cX7_cure 34 = .ok (.istore 4, 2) := dk_54 4 (dk_at dksX7_cure_1 12 rfl rfl)
theorem dX7_cure_36 : decode cX7_cure 36 = .ok (.iconst 0, 1) := dk_3 (dk_at dksX7_cure_1 14 rfl rfl)
theorem dX7_cure_37 : decode cX7_cure 37 = .ok (.istore 5, 2) := dk_54 5 (dk_at dksX7_cure_1 15 rfl rfl)
theorem dX7_cure_39 : decode cX7_cure 39 = .ok (.iload 5, 2) := dk_21 5 (dk_at dksX7_cure_1 17 rfl rfl)
theorem dX7_cure_41 : decode cX7_cure 41 = .ok (.iconst 4, 1) := dk_7 (dk_at dksX7_cure_1 19 rfl rfl)
theorem dX7_cure_42 : decode cX7_cure 42 = .ok (.if_icmp .ge 44, 3) := dk_162 0 44 (dk_at dksX7_cure_1 20 rfl rfl)
theorem dX7_cure_45 : decode cX7_cure 45 = .ok (.aload_n 0, 1) := dk_42 (dk_at dksX7_cure_1 23 rfl rfl)
theorem dX7_cure_46 : decode cX7_cure 46 = .ok (.getfield 34, 3) := dk_180 0 34 (dk_at dksX7_cure_2 0 rfl rfl)
theorem dX7_cure_49 : decode cX7_cure 49 = .ok (.iload_n 3, 1) := dk_29 (dk_at dksX7_cure_2 3 rfl rfl)
theorem dX7_cure_50 : decode cX7_cure 50 = .ok (.iload 5, 2) := dk_21 5 (dk_at dksX7_cure_2 4 rfl rfl)
theorem dX7_cure_52 : decode cX7_cure 52 = .ok (.iastore, 1) := dk_79 (dk_at dksX7_cure_2 6 rfl rfl)
theorem dX7_cure_53 : decode cX7_cure 53 = .ok (.aload_n 0, 1) := dk_42 (dk_at dksX7_cure_2 7 rfl rfl)
theorem dX7_cure_54 : decode cX7_cure 54 = .ok (.iconst 1, 1) := dk_4 (dk_at dksX7_cure_2 8 rfl rfl)
theorem dX7_cure_55 : decode cX7_cure 55 = .ok (.invokevirtual 393, 3) := dk_182 1 137 (dk_at dksX7_cure_2 9 rfl rfl)
theorem dX7_cure_58 : decode cX7_cure 58 = .ok (.istore 6, 2) := dk_54 6 (dk_at dksX7_cure_2 12 rfl rfl)
theorem dX7_cure_60 : decode cX7_cure 60 = .ok (.iload 6, 2) := dk_21 6 (dk_at dksX7_cure_2 14 rfl rfl)
theorem dX7_cure_62 : decode cX7_cure 62 = .ok (.iload_n 1, 1) := dk_27 (dk_at dksX7_cure_2 16 rfl rfl)
theorem dX7_cure_63 : decode cX7_cure 63 = .ok (.if_icmp .lt 6, 3) := dk_161 0 6 (dk_at dksX7_cure_2 17 rfl rfl)
theorem dX7_cure_66 : decode cX7_cure 66 = .ok (.goto 14, 3) := dk_167 0 14 (dk_at dksX7_cure_2 20 rfl rfl)
theorem dX7_cure_69 : decode cX7_cure 69 = .ok (.iload 6, 2) := dk_21 6 (dk_at dksX7_cure_3 0 rfl rfl)
theorem dX7_cure_71 : decode cX7_cure 71 = .ok (.istore_n 1, 1) := dk_60 (dk_at dksX7_cure_3 2 rfl rfl)
theorem dX7_cure_72 : decode cX7_cure 72 = .ok (.bipush 10, 2) := dk_16 10 (dk_at dksX7_cure_3 3 rfl rfl)
theorem dX7_cure_74 : decode cX7_cure 74 = .ok (.iload_n 3, 1) := dk_29 (dk_at dksX7_cure_3 5 rfl rfl)
theorem dX7_cure_75 : decode cX7_cure 75 = .ok (.imul, 1) := dk_104 (dk_at dksX7_cure_3 6 rfl rfl)
theorem dX7_cure_76 : decode cX7_cure 76 = .ok (.iload 5, 2) := dk_21 5 (dk_at dksX7_cure_3 7 rfl rfl)
theorem dX7_cure_78 : decode cX7_cure 78 = .ok (.iadd, 1) := dk_96 (dk_at dksX7_cure_3 9 rfl rfl)
theorem dX7_cure_79 : decode cX7_cure 79 = .ok (.istore_n 2, 1) := dk_61 (dk_at dksX7_cure_3 10 rfl rfl)
theorem dX7_cure_80 : decode cX7_cure 80 = .ok (.iinc 5 1, 3) := dk_132 5 1 (dk_at dksX7_cure_3 11 rfl rfl)
theorem dX7_cure_83 : decode cX7_cure 83 = .ok (.goto (-44), 3) := dk_167 255 212 (dk_at dksX7_cure_3 14 rfl rfl)
theorem dX7_cure_86 : decode cX7_cure 86 = .ok (.aload_n 0, 1) := dk_42 (dk_at dksX7_cure_3 17 rfl rfl)
theorem dX7_cure_87 : decode cX7_cure 87 = .ok (.getfield 34, 3) := dk_180 0 34 (dk_at dksX7_cure_3 18 rfl rfl)
theorem dX7_cure_90 : decode cX7_cure 90 = .ok (.iload_n 3, 1) := dk_29 (dk_at dksX7_cure_3 21 rfl rfl)
theorem dX7_cure_91 : decode cX7_cure 91 = .ok (.iload 4, 2) := dk_21 4 (dk_at dksX7_cure_3 22 rfl rfl)
theorem dX7_cure_93 : decode cX7_cure 93 = .ok (.iastore, 1) := dk_79 (dk_at dksX7_cure_4 0 rfl rfl)
theorem dX7_cure_94 : decode cX7_cure 94 = .ok (.iinc 3 1, 3) := dk_132 3 1 (dk_at dksX7_cure_4 1 rfl rfl)
theorem dX7_cure_97 : decode cX7_cure 97 = .ok (.goto (-77), 3) := dk_167 255 179 (dk_at dksX7_cure_4 4 rfl rfl)
theorem dX7_cure_100 : decode cX7_cure 100 = .ok (.iload_n 2, 1) := dk_28 (dk_at dksX7_cure_4 7 rfl rfl)
theorem dX7_cure_101 : decode cX7_cure 101 = .ok (.ireturn, 1) := dk_172 (dk_at dksX7_cure_4 8 rfl rfl)
abbrev cX7_fits : ByteArray := prog_22_method_133_code
def yX7_fits : MethodName := ⟨RX7, "fits", "(I)I"⟩
def dkwX7_fits_0 : List UInt8 := [42, 27, 182, 1, 193, 61, 28, 156, 0, 7, 28, 167, 0, 7, 42, 180, 1, 181, 172]
abbrev dktX7_fits_0 : List UInt8 := dkwX7_fits_0 ++ []
theorem dksX7_fits_0 : cX7_fits.data.toList.drop 0 = dktX7_fits_0 := by decide +kernel
theorem dX7_fits_0 : decode cX7_fits 0 = .ok (.aload_n 0, 1) := dk_42 (dk_at dksX7_fits_0 0 rfl rfl)
theorem dX7_fits_1 : decode cX7_fits 1 = .ok (.iload_n 1, 1) := dk_27 (dk_at dksX7_fits_0 1 rfl rfl)
theorem dX7_fits_2 : decode cX7_fits 2 = .ok (.invokevirtual 449, 3) := dk_182 1 193 (dk_at dksX7_fits_0 2 rfl rfl)
theorem dX7_fits_5 : decode cX7_fits 5 = .ok (.istore_n 2, 1) := dk_61 (dk_at dksX7_fits_0 5 rfl rfl)
theorem dX7_fits_6 : decode cX7_fits 6 = .ok (.iload_n 2, 1) := dk_28 (dk_at dksX7_fits_0 6 rfl rfl)
theorem dX7_fits_7 : decode cX7_fits 7 = .ok (.ifCond .ge 7, 3) := dk_156 0 7 (dk_at dksX7_fits_0 7 rfl rfl)
theorem dX7_fits_10 : decode cX7_fits 10 = .ok (.iload_n 2, 1) := dk_28 (dk_at dksX7_fits_0 10 rfl rfl)
theorem dX7_fits_11 : decode cX7_fits 11 = .ok (.goto 7, 3) := dk_167 0 7 (dk_at dksX7_fits_0 11 rfl rfl)
theorem dX7_fits_14 : decode cX7_fits 14 = .ok (.aload_n 0, 1) := dk_42 (dk_at dksX7_fits_0 14 rfl rfl)
theorem dX7_fits_15 : decode cX7_fits 15 = .ok (.getfield 437, 3) := dk_180 1 181 (dk_at dksX7_fits_0 15 rfl rfl)
theorem dX7_fits_18 : decode cX7_fits 18 = .ok (.ireturn, 1) := dk_172 (dk_at dksX7_fits_0 18 rfl rfl)
abbrev cX7_askFits : ByteArray := prog_22_method_132_code
def yX7_askFits : MethodName := ⟨RX7, "askFits", "(I)I"⟩
def dkwX7_askFits_0 : List UInt8 := [42, 27, 182, 1, 187, 61, 28, 154, 0, 8, 42, 27, 182, 1, 190, 28, 172]
abbrev dktX7_askFits_0 : List UInt8 := dkwX7_askFits_0 ++ []
theorem dksX7_askFits_0 : cX7_askFits.data.toList.drop 0 = dktX7_askFits_0 := by decide +kernel
theorem dX7_askFits_0 : decode cX7_askFits 0 = .ok (.aload_n 0, 1) := dk_42 (dk_at dksX7_askFits_0 0 rfl rfl)
theorem dX7_askFits_1 : decode cX7_askFits 1 = .ok (.iload_n 1, 1) := dk_27 (dk_at dksX7_askFits_0 1 rfl rfl)
theorem dX7_askFits_2 : decode cX7_askFits 2 = .ok (.invokevirtual 443, 3) := dk_182 1 187 (dk_at dksX7_askFits_0 2 rfl rfl)
theorem dX7_askFits_5 : decode cX7_askFits 5 = .ok (.istore_n 2, 1) := dk_61 (dk_at dksX7_askFits_0 5 rfl rfl)
theorem dX7_askFits_6 : decode cX7_askFits 6 = .ok (.iload_n 2, 1) := dk_28 (dk_at dksX7_askFits_0 6 rfl rfl)
theorem dX7_askFits_7 : decode cX7_askFits 7 = .ok (.ifCond .ne 8, 3) := dk_154 0 8 (dk_at dksX7_askFits_0 7 rfl rfl)
theorem dX7_askFits_10 : decode cX7_askFits 10 = .ok (.aload_n 0, 1) := dk_42 (dk_at dksX7_askFits_0 10 rfl rfl)
theorem dX7_askFits_11 : decode cX7_askFits 11 = .ok (.iload_n 1, 1) := dk_27 (dk_at dksX7_askFits_0 11 rfl rfl)
theorem dX7_askFits_12 : decode cX7_askFits 12 = .ok (.invokevirtual 446, 3) := dk_182 1 190 (dk_at dksX7_askFits_0 12 rfl rfl)
theorem dX7_askFits_15 : decode cX7_askFits 15 = .ok (.iload_n 2, 1) := dk_28 (dk_at dksX7_askFits_0 15 rfl rfl)
theorem dX7_askFits_16 : decode cX7_askFits 16 = .ok (.ireturn, 1) := dk_172 (dk_at dksX7_askFits_0 16 rfl rfl)
abbrev cX7_askSeen : ByteArray := prog_22_method_130_code
def yX7_askSeen : MethodName := ⟨RX7, "askSeen", "(I)I"⟩
def dkwX7_askSeen_3 : List UInt8 := [132, 2, 1, 167, 255, 227, 42, 182, 1, 62, 87, 3, 172]
abbrev dktX7_askSeen_3 : List UInt8 := dkwX7_askSeen_3 ++ []
def dkwX7_askSeen_2 : List UInt8 := [180, 0, 58, 27, 46, 162, 0, 25, 42, 42, 27, 28, 182, 1, 177, 182, 1, 58, 154, 0, 6, 16, 254, 172]
abbrev dktX7_askSeen_2 : List UInt8 := dkwX7_askSeen_2 ++ dktX7_askSeen_3
def dkwX7_askSeen_1 : List UInt8 := [160, 0, 6, 16, 250, 172, 42, 180, 0, 58, 27, 46, 6, 112, 153, 0, 6, 16, 254, 172, 3, 61, 28, 42]
abbrev dktX7_askSeen_1 : List UInt8 := dkwX7_askSeen_1 ++ dktX7_askSeen_2
def dkwX7_askSeen_0 : List UInt8 := [27, 184, 1, 174, 153, 0, 10, 42, 182, 0, 92, 154, 0, 6, 16, 254, 172, 42, 180, 0, 58, 27, 46, 2]
abbrev dktX7_askSeen_0 : List UInt8 := dkwX7_askSeen_0 ++ dktX7_askSeen_1
theorem dksX7_askSeen_0 : cX7_askSeen.data.toList.drop 0 = dktX7_askSeen_0 := by decide +kernel
theorem dksX7_askSeen_1 : cX7_askSeen.data.toList.drop 24 = dktX7_askSeen_1 := dk_seg dksX7_askSeen_0 24 rfl rfl
theorem dksX7_askSeen_2 : cX7_askSeen.data.toList.drop 48 = dktX7_askSeen_2 := dk_seg dksX7_askSeen_1 24 rfl rfl
theorem dksX7_askSeen_3 : cX7_askSeen.data.toList.drop 72 = dktX7_askSeen_3 := dk_seg dksX7_askSeen_2 24 rfl rfl
theorem dX7_askSeen_0 : decode cX7_askSeen 0 = .ok (.iload_n 1, 1) := dk_27 (dk_at dksX7_askSeen_0 0 rfl rfl)
theorem dX7_askSeen_1 : decode cX7_askSeen 1 = .ok (.invokestatic 430, 3) := dk_184 1 174 (dk_at dksX7_askSeen_0 1 rfl rfl)
theorem dX7_askSeen_4 : decode cX7_askSeen 4 = .ok (.ifCond .eq 10, 3) := dk_153 0 10 (dk_at dksX7_askSeen_0 4 rfl rfl)
theorem dX7_askSeen_7 : decode cX7_askSeen 7 = .ok (.aload_n 0, 1) := dk_42 (dk_at dksX7_askSeen_0 7 rfl rfl)
theorem dX7_askSeen_8 : decode cX7_askSeen 8 = .ok (.invokevirtual 92, 3) := dk_182 0 92 (dk_at dksX7_askSeen_0 8 rfl rfl)
theorem dX7_askSeen_11 : decode cX7_askSeen 11 = .ok (.ifCond .ne 6, 3) := dk_154 0 6 (dk_at dksX7_askSeen_0 11 rfl rfl)
theorem dX7_askSeen_14 : decode cX7_askSeen 14 = .ok (.bipush (-2), 2) := dk_16 254 (dk_at dksX7_askSeen_0 14 rfl rfl)
theorem dX7_askSeen_16 : decode cX7_askSeen 16 = .ok (.ireturn, 1) := dk_172 (dk_at dksX7_askSeen_0 16 rfl rfl)
theorem dX7_askSeen_17 : decode cX7_askSeen 17 = .ok (.aload_n 0, 1) := dk_42 (dk_at dksX7_askSeen_0 17 rfl rfl)
theorem dX7_askSeen_18 : decode cX7_askSeen 18 = .ok (.getfield 58, 3) := dk_180 0 58 (dk_at dksX7_askSeen_0 18 rfl rfl)
theorem dX7_askSeen_21 : decode cX7_askSeen 21 = .ok (.iload_n 1, 1) := dk_27 (dk_at dksX7_askSeen_0 21 rfl rfl)
theorem dX7_askSeen_22 : decode cX7_askSeen 22 = .ok (.iaload, 1) := dk_46 (dk_at dksX7_askSeen_0 22 rfl rfl)
theorem dX7_askSeen_23 : decode cX7_askSeen 23 = .ok (.iconst (-1), 1) := dk_2 (dk_at dksX7_askSeen_0 23 rfl rfl)
theorem dX7_askSeen_24 : decode cX7_askSeen 24 = .ok (.if_icmp .ne 6, 3) := dk_160 0 6 (dk_at dksX7_askSeen_1 0 rfl rfl)
theorem dX7_askSeen_27 : decode cX7_askSeen 27 = .ok (.bipush (-6), 2) := dk_16 250 (dk_at dksX7_askSeen_1 3 rfl rfl)
theorem dX7_askSeen_29 : decode cX7_askSeen 29 = .ok (.ireturn, 1) := dk_172 (dk_at dksX7_askSeen_1 5 rfl rfl)
theorem dX7_askSeen_30 : decode cX7_askSeen 30 = .ok (.aload_n 0, 1) := dk_42 (dk_at dksX7_askSeen_1 6 rfl rfl)
theorem dX7_askSeen_31 : decode cX7_askSeen 31 = .ok (.getfield 58, 3) := dk_180 0 58 (dk_at dksX7_askSeen_1 7 rfl rfl)
theorem dX7_askSeen_34 : decode cX7_askSeen 34 = .ok (.iload_n 1, 1) := dk_27 (dk_at dksX7_askSeen_1 10 rfl rfl)
theorem dX7_askSeen_35 : decode cX7_askSeen 35 = .ok (.iaload, 1) := dk_46 (dk_at dksX7_askSeen_1 11 rfl rfl)
theorem dX7_askSeen_36 : decode cX7_askSeen 36 = .ok (.iconst 3, 1) := dk_6 (dk_at dksX7_askSeen_1 12 rfl rfl)
theorem dX7_askSeen_37 : decode cX7_askSeen 37 = .ok (.irem, 1) := dk_112 (dk_at dksX7_askSeen_1 13 rfl rfl)
theorem dX7_askSeen_38 : decode cX7_askSeen 38 = .ok (.ifCond .eq 6, 3) := dk_153 0 6 (dk_at dksX7_askSeen_1 14 rfl rfl)
theorem dX7_askSeen_41 : decode cX7_askSeen 41 = .ok (.bipush (-2), 2) := dk_16 254 (dk_at dksX7_askSeen_1 17 rfl rfl)
theorem dX7_askSeen_43 : decode cX7_askSeen 43 = .ok (.ireturn, 1) := dk_172 (dk_at dksX7_askSeen_1 19 rfl rfl)
theorem dX7_askSeen_44 : decode cX7_askSeen 44 = .ok (.iconst 0, 1) := dk_3 (dk_at dksX7_askSeen_1 20 rfl rfl)
theorem dX7_askSeen_45 : decode cX7_askSeen 45 = .ok (.istore_n 2, 1) := dk_61 (dk_at dksX7_askSeen_1 21 rfl rfl)
theorem dX7_askSeen_46 : decode cX7_askSeen 46 = .ok (.iload_n 2, 1) := dk_28 (dk_at dksX7_askSeen_1 22 rfl rfl)
theorem dX7_askSeen_47 : decode cX7_askSeen 47 = .ok (.aload_n 0, 1) := dk_42 (dk_at dksX7_askSeen_1 23 rfl rfl)
theorem dX7_askSeen_48 : decode cX7_askSeen 48 = .ok (.getfield 58, 3) := dk_180 0 58 (dk_at dksX7_askSeen_2 0 rfl rfl)
theorem dX7_askSeen_51 : decode cX7_askSeen 51 = .ok (.iload_n 1, 1) := dk_27 (dk_at dksX7_askSeen_2 3 rfl rfl)
theorem dX7_askSeen_52 : decode cX7_askSeen 52 = .ok (.iaload, 1) := dk_46 (dk_at dksX7_askSeen_2 4 rfl rfl)
theorem dX7_askSeen_53 : decode cX7_askSeen 53 = .ok (.if_icmp .ge 25, 3) := dk_162 0 25 (dk_at dksX7_askSeen_2 5 rfl rfl)
theorem dX7_askSeen_56 : decode cX7_askSeen 56 = .ok (.aload_n 0, 1) := dk_42 (dk_at dksX7_askSeen_2 8 rfl rfl)
theorem dX7_askSeen_57 : decode cX7_askSeen 57 = .ok (.aload_n 0, 1) := dk_42 (dk_at dksX7_askSeen_2 9 rfl rfl)
theorem dX7_askSeen_58 : decode cX7_askSeen 58 = .ok (.iload_n 1, 1) := dk_27 (dk_at dksX7_askSeen_2 10 rfl rfl)
theorem dX7_askSeen_59 : decode cX7_askSeen 59 = .ok (.iload_n 2, 1) := dk_28 (dk_at dksX7_askSeen_2 11 rfl rfl)
theorem dX7_askSeen_60 : decode cX7_askSeen 60 = .ok (.invokevirtual 433, 3) := dk_182 1 177 (dk_at dksX7_askSeen_2 12 rfl rfl)
theorem dX7_askSeen_63 : decode cX7_askSeen 63 = .ok (.invokevirtual 314, 3) := dk_182 1 58 (dk_at dksX7_askSeen_2 15 rfl rfl)
theorem dX7_askSeen_66 : decode cX7_askSeen 66 = .ok (.ifCond .ne 6, 3) := dk_154 0 6 (dk_at dksX7_askSeen_2 18 rfl rfl)
theorem dX7_askSeen_69 : decode cX7_askSeen 69 = .ok (.bipush (-2), 2) := dk_16 254 (dk_at dksX7_askSeen_2 21 rfl rfl)
theorem dX7_askSeen_71 : decode cX7_askSeen 71 = .ok (.ireturn, 1) := dk_172 (dk_at dksX7_askSeen_2 23 rfl rfl)
theorem dX7_askSeen_72 : decode cX7_askSeen 72 = .ok (.iinc 2 1, 3) := dk_132 2 1 (dk_at dksX7_askSeen_3 0 rfl rfl)
theorem dX7_askSeen_75 : decode cX7_askSeen 75 = .ok (.goto (-29), 3) := dk_167 255 227 (dk_at dksX7_askSeen_3 3 rfl rfl)
theorem dX7_askSeen_78 : decode cX7_askSeen 78 = .ok (.aload_n 0, 1) := dk_42 (dk_at dksX7_askSeen_3 6 rfl rfl)
theorem dX7_askSeen_79 : decode cX7_askSeen 79 = .ok (.invokevirtual 318, 3) := dk_182 1 62 (dk_at dksX7_askSeen_3 7 rfl rfl)
theorem dX7_askSeen_82 : decode cX7_askSeen 82 = .ok (.pop, 1) := dk_87 (dk_at dksX7_askSeen_3 10 rfl rfl)
theorem dX7_askSeen_83 : decode cX7_askSeen 83 = .ok (.iconst 0, 1) := dk_3 (dk_at dksX7_askSeen_3 11 rfl rfl)
theorem dX7_askSeen_84 : decode cX7_askSeen 84 = .ok (.ireturn, 1) := dk_172 (dk_at dksX7_askSeen_3 12 rfl rfl)
abbrev cX7_isSlot : ByteArray := prog_22_method_165_code
def yX7_isSlot : MethodName := ⟨RX7, "isSlot", "(I)Z"⟩
def dkwX7_isSlot_0 : List UInt8 := [26, 133, 9, 20, 0, 90, 184, 0, 76, 172]
abbrev dktX7_isSlot_0 : List UInt8 := dkwX7_isSlot_0 ++ []
theorem dksX7_isSlot_0 : cX7_isSlot.data.toList.drop 0 = dktX7_isSlot_0 := by decide +kernel
theorem dX7_isSlot_0 : decode cX7_isSlot 0 = .ok (.iload_n 0, 1) := dk_26 (dk_at dksX7_isSlot_0 0 rfl rfl)
theorem dX7_isSlot_1 : decode cX7_isSlot 1 = .ok (.i2l, 1) := dk_133 (dk_at dksX7_isSlot_0 1 rfl rfl)
theorem dX7_isSlot_2 : decode cX7_isSlot 2 = .ok (.lconst 0, 1) := dk_9 (dk_at dksX7_isSlot_0 2 rfl rfl)
theorem dX7_isSlot_3 : decode cX7_isSlot 3 = .ok (.ldc2_w 90, 3) := dk_20 0 90 (dk_at dksX7_isSlot_0 3 rfl rfl)
theorem dX7_isSlot_6 : decode cX7_isSlot 6 = .ok (.invokestatic 76, 3) := dk_184 0 76 (dk_at dksX7_isSlot_0 6 rfl rfl)
theorem dX7_isSlot_9 : decode cX7_isSlot 9 = .ok (.ireturn, 1) := dk_172 (dk_at dksX7_isSlot_0 9 rfl rfl)
abbrev cX7_numberAt : ByteArray := prog_22_method_129_code
def yX7_numberAt : MethodName := ⟨RX7, "numberAt", "(II)J"⟩
def dkwX7_numberAt_0 : List UInt8 := [42, 180, 0, 64, 16, 60, 27, 104, 28, 96, 47, 173]
abbrev dktX7_numberAt_0 : List UInt8 := dkwX7_numberAt_0 ++ []
theorem dksX7_numberAt_0 : cX7_numberAt.data.toList.drop 0 = dktX7_numberAt_0 := by decide +kernel
theorem dX7_numberAt_0 : decode cX7_numberAt 0 = .ok (.aload_n 0, 1) := dk_42 (dk_at dksX7_numberAt_0 0 rfl rfl)
theorem dX7_numberAt_1 : decode cX7_numberAt 1 = .ok (.getfield 64, 3) := dk_180 0 64 (dk_at dksX7_numberAt_0 1 rfl rfl)
theorem dX7_numberAt_4 : decode cX7_numberAt 4 = .ok (.bipush 60, 2) := dk_16 60 (dk_at dksX7_numberAt_0 4 rfl rfl)
theorem dX7_numberAt_6 : decode cX7_numberAt 6 = .ok (.iload_n 1, 1) := dk_27 (dk_at dksX7_numberAt_0 6 rfl rfl)
theorem dX7_numberAt_7 : decode cX7_numberAt 7 = .ok (.imul, 1) := dk_104 (dk_at dksX7_numberAt_0 7 rfl rfl)
theorem dX7_numberAt_8 : decode cX7_numberAt 8 = .ok (.iload_n 2, 1) := dk_28 (dk_at dksX7_numberAt_0 8 rfl rfl)
theorem dX7_numberAt_9 : decode cX7_numberAt 9 = .ok (.iadd, 1) := dk_96 (dk_at dksX7_numberAt_0 9 rfl rfl)
theorem dX7_numberAt_10 : decode cX7_numberAt 10 = .ok (.laload, 1) := dk_47 (dk_at dksX7_numberAt_0 10 rfl rfl)
theorem dX7_numberAt_11 : decode cX7_numberAt 11 = .ok (.lreturn, 1) := dk_173 (dk_at dksX7_numberAt_0 11 rfl rfl)
abbrev cX7_layFits : ByteArray := prog_22_method_131_code
def yX7_layFits : MethodName := ⟨RX7, "layFits", "(I)V"⟩
def dkwX7_layFits_5 : List UInt8 := [96, 181, 1, 181, 132, 2, 1, 167, 255, 142, 177]
abbrev dktX7_layFits_5 : List UInt8 := dkwX7_layFits_5 ++ []
def dkwX7_layFits_4 : List UInt8 := [154, 0, 6, 167, 0, 25, 42, 180, 1, 181, 154, 0, 8, 42, 28, 181, 1, 184, 42, 89, 180, 1, 181, 4]
abbrev dktX7_layFits_4 : List UInt8 := dkwX7_layFits_4 ++ dktX7_layFits_5
def dkwX7_layFits_3 : List UInt8 := [21, 4, 5, 96, 182, 1, 177, 148, 154, 0, 7, 4, 167, 0, 4, 3, 62, 132, 4, 3, 167, 255, 195, 29]
abbrev dktX7_layFits_3 : List UInt8 := dkwX7_layFits_3 ++ dktX7_layFits_4
def dkwX7_layFits_2 : List UInt8 := [27, 21, 4, 182, 1, 177, 136, 42, 27, 21, 4, 4, 96, 182, 1, 177, 136, 182, 1, 88, 133, 42, 27]
abbrev dktX7_layFits_2 : List UInt8 := dkwX7_layFits_2 ++ dktX7_layFits_3
def dkwX7_layFits_1 : List UInt8 := [28, 51, 62, 3, 54, 4, 21, 4, 42, 180, 0, 58, 27, 46, 162, 0, 56, 29, 153, 0, 52, 42, 28, 42]
abbrev dktX7_layFits_1 : List UInt8 := dkwX7_layFits_1 ++ dktX7_layFits_2
def dkwX7_layFits_0 : List UInt8 := [42, 3, 181, 1, 181, 42, 2, 181, 1, 184, 3, 61, 28, 42, 182, 0, 96, 162, 0, 112, 42, 180, 0, 37]
abbrev dktX7_layFits_0 : List UInt8 := dkwX7_layFits_0 ++ dktX7_layFits_1
theorem dksX7_layFits_0 : cX7_layFits.data.toList.drop 0 = dktX7_layFits_0 := by decide +kernel
theorem dksX7_layFits_1 : cX7_layFits.data.toList.drop 24 = dktX7_layFits_1 := dk_seg dksX7_layFits_0 24 rfl rfl
theorem dksX7_layFits_2 : cX7_layFits.data.toList.drop 48 = dktX7_layFits_2 := dk_seg dksX7_layFits_1 24 rfl rfl
theorem dksX7_layFits_3 : cX7_layFits.data.toList.drop 71 = dktX7_layFits_3 := dk_seg dksX7_layFits_2 23 rfl rfl
theorem dksX7_layFits_4 : cX7_layFits.data.toList.drop 95 = dktX7_layFits_4 := dk_seg dksX7_layFits_3 24 rfl rfl
theorem dksX7_layFits_5 : cX7_layFits.data.toList.drop 119 = dktX7_layFits_5 := dk_seg dksX7_layFits_4 24 rfl rfl
theorem dX7_layFits_0 : decode cX7_layFits 0 = .ok (.aload_n 0, 1) := dk_42 (dk_at dksX7_layFits_0 0 rfl rfl)
theorem dX7_layFits_1 : decode cX7_layFits 1 = .ok (.iconst 0, 1) := dk_3 (dk_at dksX7_layFits_0 1 rfl rfl)
theorem dX7_layFits_2 : decode cX7_layFits 2 = .ok (.putfield 437, 3) := dk_181 1 181 (dk_at dksX7_layFits_0 2 rfl rfl)
theorem dX7_layFits_5 : decode cX7_layFits 5 = .ok (.aload_n 0, 1) := dk_42 (dk_at dksX7_layFits_0 5 rfl rfl)
theorem dX7_layFits_6 : decode cX7_layFits 6 = .ok (.iconst (-1), 1) := dk_2 (dk_at dksX7_layFits_0 6 rfl rfl)
theorem dX7_layFits_7 : decode cX7_layFits 7 = .ok (.putfield 440, 3) := dk_181 1 184 (dk_at dksX7_layFits_0 7 rfl rfl)
theorem dX7_layFits_10 : decode cX7_layFits 10 = .ok (.iconst 0, 1) := dk_3 (dk_at dksX7_layFits_0 10 rfl rfl)
theorem dX7_layFits_11 : decode cX7_layFits 11 = .ok (.istore_n 2, 1) := dk_61 (dk_at dksX7_layFits_0 11 rfl rfl)
theorem dX7_layFits_12 : decode cX7_layFits 12 = .ok (.iload_n 2, 1) := dk_28 (dk_at dksX7_layFits_0 12 rfl rfl)
theorem dX7_layFits_13 : decode cX7_layFits 13 = .ok (.aload_n 0, 1) := dk_42 (dk_at dksX7_layFits_0 13 rfl rfl)
theorem dX7_layFits_14 : decode cX7_layFits 14 = .ok (.invokevirtual 96, 3) := dk_182 0 96 (dk_at dksX7_layFits_0 14 rfl rfl)
theorem dX7_layFits_17 : decode cX7_layFits 17 = .ok (.if_icmp .ge 112, 3) := dk_162 0 112 (dk_at dksX7_layFits_0 17 rfl rfl)
theorem dX7_layFits_20 : decode cX7_layFits 20 = .ok (.aload_n 0, 1) := dk_42 (dk_at dksX7_layFits_0 20 rfl rfl)
theorem dX7_layFits_21 : decode cX7_layFits 21 = .ok (.getfield 37, 3) := dk_180 0 37 (dk_at dksX7_layFits_0 21 rfl rfl)
theorem dX7_layFits_24 : decode cX7_layFits 24 = .ok (.iload_n 2, 1) := dk_28 (dk_at dksX7_layFits_1 0 rfl rfl)
theorem dX7_layFits_25 : decode cX7_layFits 25 = .ok (.baload, 1) := dk_51 (dk_at dksX7_layFits_1 1 rfl rfl)
theorem dX7_layFits_26 : decode cX7_layFits 26 = .ok (.istore_n 3, 1) := dk_62 (dk_at dksX7_layFits_1 2 rfl rfl)
theorem dX7_layFits_27 : decode cX7_layFits 27 = .ok (.iconst 0, 1) := dk_3 (dk_at dksX7_layFits_1 3 rfl rfl)
theorem dX7_layFits_28 : decode cX7_layFits 28 = .ok (.istore 4, 2) := dk_54 4 (dk_at dksX7_layFits_1 4 rfl rfl)
theorem dX7_layFits_30 : decode cX7_layFits 30 = .ok (.iload 4, 2) := dk_21 4 (dk_at dksX7_layFits_1 6 rfl rfl)
theorem dX7_layFits_32 : decode cX7_layFits 32 = .ok (.aload_n 0, 1) := dk_42 (dk_at dksX7_layFits_1 8 rfl rfl)
theorem dX7_layFits_33 : decode cX7_layFits 33 = .ok (.getfield 58, 3) := dk_180 0 58 (dk_at dksX7_layFits_1 9 rfl rfl)
theorem dX7_layFits_36 : decode cX7_layFits 36 = .ok (.iload_n 1, 1) := dk_27 (dk_at dksX7_layFits_1 12 rfl rfl)
theorem dX7_layFits_37 : decode cX7_layFits 37 = .ok (.iaload, 1) := dk_46 (dk_at dksX7_layFits_1 13 rfl rfl)
theorem dX7_layFits_38 : decode cX7_layFits 38 = .ok (.if_icmp .ge 56, 3) := dk_162 0 56 (dk_at dksX7_layFits_1 14 rfl rfl)
theorem dX7_layFits_41 : decode cX7_layFits 41 = .ok (.iload_n 3, 1) := dk_29 (dk_at dksX7_layFits_1 17 rfl rfl)
theorem dX7_layFits_42 : decode cX7_layFits 42 = .ok (.ifCond .eq 52, 3) := dk_153 0 52 (dk_at dksX7_layFits_1 18 rfl rfl)
theorem dX7_layFits_45 : decode cX7_layFits 45 = .ok (.aload_n 0, 1) := dk_42 (dk_at dksX7_layFits_1 21 rfl rfl)
theorem dX7_layFits_46 : decode cX7_layFits 46 = .ok (.iload_n 2, 1) := dk_28 (dk_at dksX7_layFits_1 22 rfl rfl)
theorem dX7_layFits_47 : decode cX7_layFits 47 = .ok (.aload_n 0, 1) := dk_42 (dk_at dksX7_layFits_1 23 rfl rfl)
theorem dX7_layFits_48 : decode cX7_layFits 48 = .ok (.iload_n 1, 1) := dk_27 (dk_at dksX7_layFits_2 0 rfl rfl)
theorem dX7_layFits_49 : decode cX7_layFits 49 = .ok (.iload 4, 2) := dk_21 4 (dk_at dksX7_layFits_2 1 rfl rfl)
theorem dX7_layFits_51 : decode cX7_layFits 51 = .ok (.invokevirtual 433, 3) := dk_182 1 177 (dk_at dksX7_layFits_2 3 rfl rfl)
theorem dX7_layFits_54 : decode cX7_layFits 54 = .ok (.l2i, 1) := dk_136 (dk_at dksX7_layFits_2 6 rfl rfl)
theorem dX7_layFits_55 : decode cX7_layFits 55 = .ok (.aload_n 0, 1) := dk_42 (dk_at dksX7_layFits_2 7 rfl rfl)
theorem dX7_layFits_56 : decode cX7_layFits 56 = .ok (.iload_n 1, 1) := dk_27 (dk_at dksX7_layFits_2 8 rfl rfl)
theorem dX7_layFits_57 : decode cX7_layFits 57 = .ok (.iload 4, 2) := dk_21 4 (dk_at dksX7_layFits_2 9 rfl rfl)
theorem dX7_layFits_59 : decode cX7_layFits 59 = .ok (.iconst 1, 1) := dk_4 (dk_at dksX7_layFits_2 11 rfl rfl)
theorem dX7_layFits_60 : decode cX7_layFits 60 = .ok (.iadd, 1) := dk_96 (dk_at dksX7_layFits_2 12 rfl rfl)
theorem dX7_layFits_61 : decode cX7_layFits 61 = .ok (.invokevirtual 433, 3) := dk_182 1 177 (dk_at dksX7_layFits_2 13 rfl rfl)
theorem dX7_layFits_64 : decode cX7_layFits 64 = .ok (.l2i, 1) := dk_136 (dk_at dksX7_layFits_2 16 rfl rfl)
theorem dX7_layFits_65 : decode cX7_layFits 65 = .ok (.invokevirtual 344, 3) := dk_182 1 88 (dk_at dksX7_layFits_2 17 rfl rfl)
theorem dX7_layFits_68 : decode cX7_layFits 68 = .ok (.i2l, 1) := dk_133 (dk_at dksX7_layFits_2 20 rfl rfl)
theorem dX7_layFits_69 : decode cX7_layFits 69 = .ok (.aload_n 0, 1) := dk_42 (dk_at dksX7_layFits_2 21 rfl rfl)
theorem dX7_layFits_70 : decode cX7_layFits 70 = .ok (.iload_n 1, 1) := dk_27 (dk_at dksX7_layFits_2 22 rfl rfl)
theorem dX7_layFits_71 : decode cX7_layFits 71 = .ok (.iload 4, 2) := dk_21 4 (dk_at dksX7_layFits_3 0 rfl rfl)
theorem dX7_layFits_73 : decode cX7_layFits 73 = .ok (.iconst 2, 1) := dk_5 (dk_at dksX7_layFits_3 2 rfl rfl)
theorem dX7_layFits_74 : decode cX7_layFits 74 = .ok (.iadd, 1) := dk_96 (dk_at dksX7_layFits_3 3 rfl rfl)
theorem dX7_layFits_75 : decode cX7_layFits 75 = .ok (.invokevirtual 433, 3) := dk_182 1 177 (dk_at dksX7_layFits_3 4 rfl rfl)
theorem dX7_layFits_78 : decode cX7_layFits 78 = .ok (.lcmp, 1) := dk_148 (dk_at dksX7_layFits_3 7 rfl rfl)
theorem dX7_layFits_79 : decode cX7_layFits 79 = .ok (.ifCond .ne 7, 3) := dk_154 0 7 (dk_at dksX7_layFits_3 8 rfl rfl)
theorem dX7_layFits_82 : decode cX7_layFits 82 = .ok (.iconst 1, 1) := dk_4 (dk_at dksX7_layFits_3 11 rfl rfl)
theorem dX7_layFits_83 : decode cX7_layFits 83 = .ok (.goto 4, 3) := dk_167 0 4 (dk_at dksX7_layFits_3 12 rfl rfl)
theorem dX7_layFits_86 : decode cX7_layFits 86 = .ok (.iconst 0, 1) := dk_3 (dk_at dksX7_layFits_3 15 rfl rfl)
theorem dX7_layFits_87 : decode cX7_layFits 87 = .ok (.istore_n 3, 1) := dk_62 (dk_at dksX7_layFits_3 16 rfl rfl)
theorem dX7_layFits_88 : decode cX7_layFits 88 = .ok (.iinc 4 3, 3) := dk_132 4 3 (dk_at dksX7_layFits_3 17 rfl rfl)
theorem dX7_layFits_91 : decode cX7_layFits 91 = .ok (.goto (-61), 3) := dk_167 255 195 (dk_at dksX7_layFits_3 20 rfl rfl)
theorem dX7_layFits_94 : decode cX7_layFits 94 = .ok (.iload_n 3, 1) := dk_29 (dk_at dksX7_layFits_3 23 rfl rfl)
theorem dX7_layFits_95 : decode cX7_layFits 95 = .ok (.ifCond .ne 6, 3) := dk_154 0 6 (dk_at dksX7_layFits_4 0 rfl rfl)
theorem dX7_layFits_98 : decode cX7_layFits 98 = .ok (.goto 25, 3) := dk_167 0 25 (dk_at dksX7_layFits_4 3 rfl rfl)
theorem dX7_layFits_101 : decode cX7_layFits 101 = .ok (.aload_n 0, 1) := dk_42 (dk_at dksX7_layFits_4 6 rfl rfl)
theorem dX7_layFits_102 : decode cX7_layFits 102 = .ok (.getfield 437, 3) := dk_180 1 181 (dk_at dksX7_layFits_4 7 rfl rfl)
theorem dX7_layFits_105 : decode cX7_layFits 105 = .ok (.ifCond .ne 8, 3) := dk_154 0 8 (dk_at dksX7_layFits_4 10 rfl rfl)
theorem dX7_layFits_108 : decode cX7_layFits 108 = .ok (.aload_n 0, 1) := dk_42 (dk_at dksX7_layFits_4 13 rfl rfl)
theorem dX7_layFits_109 : decode cX7_layFits 109 = .ok (.iload_n 2, 1) := dk_28 (dk_at dksX7_layFits_4 14 rfl rfl)
theorem dX7_layFits_110 : decode cX7_layFits 110 = .ok (.putfield 440, 3) := dk_181 1 184 (dk_at dksX7_layFits_4 15 rfl rfl)
theorem dX7_layFits_113 : decode cX7_layFits 113 = .ok (.aload_n 0, 1) := dk_42 (dk_at dksX7_layFits_4 18 rfl rfl)
theorem dX7_layFits_114 : decode cX7_layFits 114 = .ok (.dup, 1) := dk_89 (dk_at dksX7_layFits_4 19 rfl rfl)
theorem dX7_layFits_115 : decode cX7_layFits 115 = .ok (.getfield 437, 3) := dk_180 1 181 (dk_at dksX7_layFits_4 20 rfl rfl)
theorem dX7_layFits_118 : decode cX7_layFits 118 = .ok (.iconst 1, 1) := dk_4 (dk_at dksX7_layFits_4 23 rfl rfl)
theorem dX7_layFits_119 : decode cX7_layFits 119 = .ok (.iadd, 1) := dk_96 (dk_at dksX7_layFits_5 0 rfl rfl)
theorem dX7_layFits_120 : decode cX7_layFits 120 = .ok (.putfield 437, 3) := dk_181 1 181 (dk_at dksX7_layFits_5 1 rfl rfl)
theorem dX7_layFits_123 : decode cX7_layFits 123 = .ok (.iinc 2 1, 3) := dk_132 2 1 (dk_at dksX7_layFits_5 4 rfl rfl)
theorem dX7_layFits_126 : decode cX7_layFits 126 = .ok (.goto (-114), 3) := dk_167 255 142 (dk_at dksX7_layFits_5 7 rfl rfl)
theorem dX7_layFits_129 : decode cX7_layFits 129 = .ok (.return_, 1) := dk_177 (dk_at dksX7_layFits_5 10 rfl rfl)
abbrev cX7_which : ByteArray := prog_22_method_134_code
def yX7_which : MethodName := ⟨RX7, "which", "(I)I"⟩
def dkwX7_which_0 : List UInt8 := [42, 27, 182, 1, 193, 61, 28, 156, 0, 7, 28, 167, 0, 7, 42, 180, 1, 184, 172]
abbrev dktX7_which_0 : List UInt8 := dkwX7_which_0 ++ []
theorem dksX7_which_0 : cX7_which.data.toList.drop 0 = dktX7_which_0 := by decide +kernel
theorem dX7_which_0 : decode cX7_which 0 = .ok (.aload_n 0, 1) := dk_42 (dk_at dksX7_which_0 0 rfl rfl)
theorem dX7_which_1 : decode cX7_which 1 = .ok (.iload_n 1, 1) := dk_27 (dk_at dksX7_which_0 1 rfl rfl)
theorem dX7_which_2 : decode cX7_which 2 = .ok (.invokevirtual 449, 3) := dk_182 1 193 (dk_at dksX7_which_0 2 rfl rfl)
theorem dX7_which_5 : decode cX7_which 5 = .ok (.istore_n 2, 1) := dk_61 (dk_at dksX7_which_0 5 rfl rfl)
theorem dX7_which_6 : decode cX7_which 6 = .ok (.iload_n 2, 1) := dk_28 (dk_at dksX7_which_0 6 rfl rfl)
theorem dX7_which_7 : decode cX7_which 7 = .ok (.ifCond .ge 7, 3) := dk_156 0 7 (dk_at dksX7_which_0 7 rfl rfl)
theorem dX7_which_10 : decode cX7_which 10 = .ok (.iload_n 2, 1) := dk_28 (dk_at dksX7_which_0 10 rfl rfl)
theorem dX7_which_11 : decode cX7_which 11 = .ok (.goto 7, 3) := dk_167 0 7 (dk_at dksX7_which_0 11 rfl rfl)
theorem dX7_which_14 : decode cX7_which 14 = .ok (.aload_n 0, 1) := dk_42 (dk_at dksX7_which_0 14 rfl rfl)
theorem dX7_which_15 : decode cX7_which 15 = .ok (.getfield 440, 3) := dk_180 1 184 (dk_at dksX7_which_0 15 rfl rfl)
theorem dX7_which_18 : decode cX7_which 18 = .ok (.ireturn, 1) := dk_172 (dk_at dksX7_which_0 18 rfl rfl)
abbrev cX7_laws : ByteArray := prog_22_method_135_code
def yX7_laws : MethodName := ⟨RX7, "laws", "(I)I"⟩
def dkwX7_laws_2 : List UInt8 := [167, 0, 4, 3, 128, 62, 42, 89, 180, 1, 20, 4, 96, 181, 1, 20, 167, 255, 213, 29, 172]
abbrev dktX7_laws_2 : List UInt8 := dkwX7_laws_2 ++ []
def dkwX7_laws_1 : List UInt8 := [162, 0, 41, 42, 27, 182, 1, 190, 29, 42, 180, 1, 181, 158, 0, 12, 4, 42, 180, 1, 20, 120]
abbrev dktX7_laws_1 : List UInt8 := dkwX7_laws_1 ++ dktX7_laws_2
def dkwX7_laws_0 : List UInt8 := [42, 27, 182, 1, 187, 61, 28, 156, 0, 5, 28, 172, 3, 62, 42, 3, 181, 1, 20, 42, 180, 1, 20, 7]
abbrev dktX7_laws_0 : List UInt8 := dkwX7_laws_0 ++ dktX7_laws_1
theorem dksX7_laws_0 : cX7_laws.data.toList.drop 0 = dktX7_laws_0 := by decide +kernel
theorem dksX7_laws_1 : cX7_laws.data.toList.drop 24 = dktX7_laws_1 := dk_seg dksX7_laws_0 24 rfl rfl
theorem dksX7_laws_2 : cX7_laws.data.toList.drop 46 = dktX7_laws_2 := dk_seg dksX7_laws_1 22 rfl rfl
theorem dX7_laws_0 : decode cX7_laws 0 = .ok (.aload_n 0, 1) := dk_42 (dk_at dksX7_laws_0 0 rfl rfl)
theorem dX7_laws_1 : decode cX7_laws 1 = .ok (.iload_n 1, 1) := dk_27 (dk_at dksX7_laws_0 1 rfl rfl)
theorem dX7_laws_2 : decode cX7_laws 2 = .ok (.invokevirtual 443, 3) := dk_182 1 187 (dk_at dksX7_laws_0 2 rfl rfl)
theorem dX7_laws_5 : decode cX7_laws 5 = .ok (.istore_n 2, 1) := dk_61 (dk_at dksX7_laws_0 5 rfl rfl)
theorem dX7_laws_6 : decode cX7_laws 6 = .ok (.iload_n 2, 1) := dk_28 (dk_at dksX7_laws_0 6 rfl rfl)
theorem dX7_laws_7 : decode cX7_laws 7 = .ok (.ifCond .ge 5, 3) := dk_156 0 5 (dk_at dksX7_laws_0 7 rfl rfl)
theorem dX7_laws_10 : decode cX7_laws 10 = .ok (.iload_n 2, 1) := dk_28 (dk_at dksX7_laws_0 10 rfl rfl)
theorem dX7_laws_11 : decode cX7_laws 11 = .ok (.ireturn, 1) := dk_172 (dk_at dksX7_laws_0 11 rfl rfl)
theorem dX7_laws_12 : decode cX7_laws 12 = .ok (.iconst 0, 1) := dk_3 (dk_at dksX7_laws_0 12 rfl rfl)
theorem dX7_laws_13 : decode cX7_laws 13 = .ok (.istore_n 3, 1) := dk_62 (dk_at dksX7_laws_0 13 rfl rfl)
theorem dX7_laws_14 : decode cX7_laws 14 = .ok (.aload_n 0, 1) := dk_42 (dk_at dksX7_laws_0 14 rfl rfl)
theorem dX7_laws_15 : decode cX7_laws 15 = .ok (.iconst 0, 1) := dk_3 (dk_at dksX7_laws_0 15 rfl rfl)
theorem dX7_laws_16 : decode cX7_laws 16 = .ok (.putfield 276, 3) := dk_181 1 20 (dk_at dksX7_laws_0 16 rfl rfl)
theorem dX7_laws_19 : decode cX7_laws 19 = .ok (.aload_n 0, 1) := dk_42 (dk_at dksX7_laws_0 19 rfl rfl)
theorem dX7_laws_20 : decode cX7_laws 20 = .ok (.getfield 276, 3) := dk_180 1 20 (dk_at dksX7_laws_0 20 rfl rfl)
theorem dX7_laws_23 : decode cX7_laws 23 = .ok (.iconst 4, 1) := dk_7 (dk_at dksX7_laws_0 23 rfl rfl)
theorem dX7_laws_24 : decode cX7_laws 24 = .ok (.if_icmp .ge 41, 3) := dk_162 0 41 (dk_at dksX7_laws_1 0 rfl rfl)
theorem dX7_laws_27 : decode cX7_laws 27 = .ok (.aload_n 0, 1) := dk_42 (dk_at dksX7_laws_1 3 rfl rfl)
theorem dX7_laws_28 : decode cX7_laws 28 = .ok (.iload_n 1, 1) := dk_27 (dk_at dksX7_laws_1 4 rfl rfl)
theorem dX7_laws_29 : decode cX7_laws 29 = .ok (.invokevirtual 446, 3) := dk_182 1 190 (dk_at dksX7_laws_1 5 rfl rfl)
theorem dX7_laws_32 : decode cX7_laws 32 = .ok (.iload_n 3, 1) := dk_29 (dk_at dksX7_laws_1 8 rfl rfl)
theorem dX7_laws_33 : decode cX7_laws 33 = .ok (.aload_n 0, 1) := dk_42 (dk_at dksX7_laws_1 9 rfl rfl)
theorem dX7_laws_34 : decode cX7_laws 34 = .ok (.getfield 437, 3) := dk_180 1 181 (dk_at dksX7_laws_1 10 rfl rfl)
theorem dX7_laws_37 : decode cX7_laws 37 = .ok (.ifCond .le 12, 3) := dk_158 0 12 (dk_at dksX7_laws_1 13 rfl rfl)
theorem dX7_laws_40 : decode cX7_laws 40 = .ok (.iconst 1, 1) := dk_4 (dk_at dksX7_laws_1 16 rfl rfl)
theorem dX7_laws_41 : decode cX7_laws 41 = .ok (.aload_n 0, 1) := dk_42 (dk_at dksX7_laws_1 17 rfl rfl)
theorem dX7_laws_42 : decode cX7_laws 42 = .ok (.getfield 276, 3) := dk_180 1 20 (dk_at dksX7_laws_1 18 rfl rfl)
theorem dX7_laws_45 : decode cX7_laws 45 = .ok (.ishl, 1) := dk_120 (dk_at dksX7_laws_1 21 rfl rfl)
theorem dX7_laws_46 : decode cX7_laws 46 = .ok (.goto 4, 3) := dk_167 0 4 (dk_at dksX7_laws_2 0 rfl rfl)
theorem dX7_laws_49 : decode cX7_laws 49 = .ok (.iconst 0, 1) := dk_3 (dk_at dksX7_laws_2 3 rfl rfl)
theorem dX7_laws_50 : decode cX7_laws 50 = .ok (.ior, 1) := dk_128 (dk_at dksX7_laws_2 4 rfl rfl)
theorem dX7_laws_51 : decode cX7_laws 51 = .ok (.istore_n 3, 1) := dk_62 (dk_at dksX7_laws_2 5 rfl rfl)
theorem dX7_laws_52 : decode cX7_laws 52 = .ok (.aload_n 0, 1) := dk_42 (dk_at dksX7_laws_2 6 rfl rfl)
theorem dX7_laws_53 : decode cX7_laws 53 = .ok (.dup, 1) := dk_89 (dk_at dksX7_laws_2 7 rfl rfl)
theorem dX7_laws_54 : decode cX7_laws 54 = .ok (.getfield 276, 3) := dk_180 1 20 (dk_at dksX7_laws_2 8 rfl rfl)
theorem dX7_laws_57 : decode cX7_laws 57 = .ok (.iconst 1, 1) := dk_4 (dk_at dksX7_laws_2 11 rfl rfl)
theorem dX7_laws_58 : decode cX7_laws 58 = .ok (.iadd, 1) := dk_96 (dk_at dksX7_laws_2 12 rfl rfl)
theorem dX7_laws_59 : decode cX7_laws 59 = .ok (.putfield 276, 3) := dk_181 1 20 (dk_at dksX7_laws_2 13 rfl rfl)
theorem dX7_laws_62 : decode cX7_laws 62 = .ok (.goto (-43), 3) := dk_167 255 213 (dk_at dksX7_laws_2 16 rfl rfl)
theorem dX7_laws_65 : decode cX7_laws 65 = .ok (.iload_n 3, 1) := dk_29 (dk_at dksX7_laws_2 19 rfl rfl)
theorem dX7_laws_66 : decode cX7_laws 66 = .ok (.ireturn, 1) := dk_172 (dk_at dksX7_laws_2 20 rfl rfl)
abbrev cX7_by : ByteArray := prog_22_method_137_code
def yX7_by : MethodName := ⟨RX7, "by", "(I)I"⟩
def dkwX7_by_1 : List UInt8 := [167, 0, 5, 16, 254, 172]
abbrev dktX7_by_1 : List UInt8 := dkwX7_by_1 ++ []
def dkwX7_by_0 : List UInt8 := [42, 182, 1, 62, 153, 0, 23, 27, 133, 9, 20, 0, 90, 184, 0, 76, 153, 0, 11, 42, 27, 182, 1, 196]
abbrev dktX7_by_0 : List UInt8 := dkwX7_by_0 ++ dktX7_by_1
theorem dksX7_by_0 : cX7_by.data.toList.drop 0 = dktX7_by_0 := by decide +kernel
theorem dksX7_by_1 : cX7_by.data.toList.drop 24 = dktX7_by_1 := dk_seg dksX7_by_0 24 rfl rfl
theorem dX7_by_0 : decode cX7_by 0 = .ok (.aload_n 0, 1) := dk_42 (dk_at dksX7_by_0 0 rfl rfl)
theorem dX7_by_1 : decode cX7_by 1 = .ok (.invokevirtual 318, 3) := dk_182 1 62 (dk_at dksX7_by_0 1 rfl rfl)
theorem dX7_by_4 : decode cX7_by 4 = .ok (.ifCond .eq 23, 3) := dk_153 0 23 (dk_at dksX7_by_0 4 rfl rfl)
theorem dX7_by_7 : decode cX7_by 7 = .ok (.iload_n 1, 1) := dk_27 (dk_at dksX7_by_0 7 rfl rfl)
theorem dX7_by_8 : decode cX7_by 8 = .ok (.i2l, 1) := dk_133 (dk_at dksX7_by_0 8 rfl rfl)
theorem dX7_by_9 : decode cX7_by 9 = .ok (.lconst 0, 1) := dk_9 (dk_at dksX7_by_0 9 rfl rfl)
theorem dX7_by_10 : decode cX7_by 10 = .ok (.ldc2_w 90, 3) := dk_20 0 90 (dk_at dksX7_by_0 10 rfl rfl)
theorem dX7_by_13 : decode cX7_by 13 = .ok (.invokestatic 76, 3) := dk_184 0 76 (dk_at dksX7_by_0 13 rfl rfl)
theorem dX7_by_16 : decode cX7_by 16 = .ok (.ifCond .eq 11, 3) := dk_153 0 11 (dk_at dksX7_by_0 16 rfl rfl)
theorem dX7_by_19 : decode cX7_by 19 = .ok (.aload_n 0, 1) := dk_42 (dk_at dksX7_by_0 19 rfl rfl)
theorem dX7_by_20 : decode cX7_by 20 = .ok (.iload_n 1, 1) := dk_27 (dk_at dksX7_by_0 20 rfl rfl)
theorem dX7_by_21 : decode cX7_by 21 = .ok (.invokevirtual 452, 3) := dk_182 1 196 (dk_at dksX7_by_0 21 rfl rfl)
theorem dX7_by_24 : decode cX7_by 24 = .ok (.goto 5, 3) := dk_167 0 5 (dk_at dksX7_by_1 0 rfl rfl)
theorem dX7_by_27 : decode cX7_by 27 = .ok (.bipush (-2), 2) := dk_16 254 (dk_at dksX7_by_1 3 rfl rfl)
theorem dX7_by_29 : decode cX7_by 29 = .ok (.ireturn, 1) := dk_172 (dk_at dksX7_by_1 5 rfl rfl)
abbrev cX7_breaksByLaw : ByteArray := prog_22_method_136_code
def yX7_breaksByLaw : MethodName := ⟨RX7, "breaksByLaw", "(I)I"⟩
def dkwX7_breaksByLaw_0 : List UInt8 := [42, 27, 181, 1, 20, 42, 4, 182, 1, 137, 172]
abbrev dktX7_breaksByLaw_0 : List UInt8 := dkwX7_breaksByLaw_0 ++ []
theorem dksX7_breaksByLaw_0 : cX7_breaksByLaw.data.toList.drop 0 = dktX7_breaksByLaw_0 := by decide +kernel
theorem dX7_breaksByLaw_0 : decode cX7_breaksByLaw 0 = .ok (.aload_n 0, 1) := dk_42 (dk_at dksX7_breaksByLaw_0 0 rfl rfl)
theorem dX7_breaksByLaw_1 : decode cX7_breaksByLaw 1 = .ok (.iload_n 1, 1) := dk_27 (dk_at dksX7_breaksByLaw_0 1 rfl rfl)
theorem dX7_breaksByLaw_2 : decode cX7_breaksByLaw 2 = .ok (.putfield 276, 3) := dk_181 1 20 (dk_at dksX7_breaksByLaw_0 2 rfl rfl)
theorem dX7_breaksByLaw_5 : decode cX7_breaksByLaw 5 = .ok (.aload_n 0, 1) := dk_42 (dk_at dksX7_breaksByLaw_0 5 rfl rfl)
theorem dX7_breaksByLaw_6 : decode cX7_breaksByLaw 6 = .ok (.iconst 1, 1) := dk_4 (dk_at dksX7_breaksByLaw_0 6 rfl rfl)
theorem dX7_breaksByLaw_7 : decode cX7_breaksByLaw 7 = .ok (.invokevirtual 393, 3) := dk_182 1 137 (dk_at dksX7_breaksByLaw_0 7 rfl rfl)
theorem dX7_breaksByLaw_10 : decode cX7_breaksByLaw 10 = .ok (.ireturn, 1) := dk_172 (dk_at dksX7_breaksByLaw_0 10 rfl rfl)
abbrev cX7_law : ByteArray := prog_22_method_138_code
def yX7_law : MethodName := ⟨RX7, "law", "()I"⟩
def dkwX7_law_1 : List UInt8 := [42, 27, 182, 1, 196, 162, 0, 7, 28, 167, 0, 4, 27, 60, 132, 2, 1, 167, 255, 229, 27, 172]
abbrev dktX7_law_1 : List UInt8 := dkwX7_law_1 ++ []
def dkwX7_law_0 : List UInt8 := [42, 182, 1, 62, 154, 0, 6, 16, 254, 172, 3, 60, 4, 61, 28, 7, 162, 0, 28, 42, 28, 182, 1, 196]
abbrev dktX7_law_0 : List UInt8 := dkwX7_law_0 ++ dktX7_law_1
theorem dksX7_law_0 : cX7_law.data.toList.drop 0 = dktX7_law_0 := by decide +kernel
theorem dksX7_law_1 : cX7_law.data.toList.drop 24 = dktX7_law_1 := dk_seg dksX7_law_0 24 rfl rfl
theorem dX7_law_0 : decode cX7_law 0 = .ok (.aload_n 0, 1) := dk_42 (dk_at dksX7_law_0 0 rfl rfl)
theorem dX7_law_1 : decode cX7_law 1 = .ok (.invokevirtual 318, 3) := dk_182 1 62 (dk_at dksX7_law_0 1 rfl rfl)
theorem dX7_law_4 : decode cX7_law 4 = .ok (.ifCond .ne 6, 3) := dk_154 0 6 (dk_at dksX7_law_0 4 rfl rfl)
theorem dX7_law_7 : decode cX7_law 7 = .ok (.bipush (-2), 2) := dk_16 254 (dk_at dksX7_law_0 7 rfl rfl)
theorem dX7_law_9 : decode cX7_law 9 = .ok (.ireturn, 1) := dk_172 (dk_at dksX7_law_0 9 rfl rfl)
theorem dX7_law_10 : decode cX7_law 10 = .ok (.iconst 0, 1) := dk_3 (dk_at dksX7_law_0 10 rfl rfl)
theorem dX7_law_11 : decode cX7_law 11 = .ok (.istore_n 1, 1) := dk_60 (dk_at dksX7_law_0 11 rfl rfl)
theorem dX7_law_12 : decode cX7_law 12 = .ok (.iconst 1, 1) := dk_4 (dk_at dksX7_law_0 12 rfl rfl)
theorem dX7_law_13 : decode cX7_law 13 = .ok (.istore_n 2, 1) := dk_61 (dk_at dksX7_law_0 13 rfl rfl)
theorem dX7_law_14 : decode cX7_law 14 = .ok (.iload_n 2, 1) := dk_28 (dk_at dksX7_law_0 14 rfl rfl)
theorem dX7_law_15 : decode cX7_law 15 = .ok (.iconst 4, 1) := dk_7 (dk_at dksX7_law_0 15 rfl rfl)
theorem dX7_law_16 : decode cX7_law 16 = .ok (.if_icmp .ge 28, 3) := dk_162 0 28 (dk_at dksX7_law_0 16 rfl rfl)
theorem dX7_law_19 : decode cX7_law 19 = .ok (.aload_n 0, 1) := dk_42 (dk_at dksX7_law_0 19 rfl rfl)
theorem dX7_law_20 : decode cX7_law 20 = .ok (.iload_n 2, 1) := dk_28 (dk_at dksX7_law_0 20 rfl rfl)
theorem dX7_law_21 : decode cX7_law 21 = .ok (.invokevirtual 452, 3) := dk_182 1 196 (dk_at dksX7_law_0 21 rfl rfl)
theorem dX7_law_24 : decode cX7_law 24 = .ok (.aload_n 0, 1) := dk_42 (dk_at dksX7_law_1 0 rfl rfl)
theorem dX7_law_25 : decode cX7_law 25 = .ok (.iload_n 1, 1) := dk_27 (dk_at dksX7_law_1 1 rfl rfl)
theorem dX7_law_26 : decode cX7_law 26 = .ok (.invokevirtual 452, 3) := dk_182 1 196 (dk_at dksX7_law_1 2 rfl rfl)
theorem dX7_law_29 : decode cX7_law 29 = .ok (.if_icmp .ge 7, 3) := dk_162 0 7 (dk_at dksX7_law_1 5 rfl rfl)
theorem dX7_law_32 : decode cX7_law 32 = .ok (.iload_n 2, 1) := dk_28 (dk_at dksX7_law_1 8 rfl rfl)
theorem dX7_law_33 : decode cX7_law 33 = .ok (.goto 4, 3) := dk_167 0 4 (dk_at dksX7_law_1 9 rfl rfl)
theorem dX7_law_36 : decode cX7_law 36 = .ok (.iload_n 1, 1) := dk_27 (dk_at dksX7_law_1 12 rfl rfl)
theorem dX7_law_37 : decode cX7_law 37 = .ok (.istore_n 1, 1) := dk_60 (dk_at dksX7_law_1 13 rfl rfl)
theorem dX7_law_38 : decode cX7_law 38 = .ok (.iinc 2 1, 3) := dk_132 2 1 (dk_at dksX7_law_1 14 rfl rfl)
theorem dX7_law_41 : decode cX7_law 41 = .ok (.goto (-27), 3) := dk_167 255 229 (dk_at dksX7_law_1 17 rfl rfl)
theorem dX7_law_44 : decode cX7_law 44 = .ok (.iload_n 1, 1) := dk_27 (dk_at dksX7_law_1 20 rfl rfl)
theorem dX7_law_45 : decode cX7_law 45 = .ok (.ireturn, 1) := dk_172 (dk_at dksX7_law_1 21 rfl rfl)
abbrev cX7_worth : ByteArray := prog_22_method_140_code
def yX7_worth : MethodName := ⟨RX7, "worth", "(I)I"⟩
def dkwX7_worth_1 : List UInt8 := [182, 1, 199, 167, 0, 5, 16, 254, 172]
abbrev dktX7_worth_1 : List UInt8 := dkwX7_worth_1 ++ []
def dkwX7_worth_0 : List UInt8 := [42, 182, 0, 92, 153, 0, 25, 27, 133, 9, 42, 182, 1, 146, 133, 184, 0, 76, 153, 0, 11, 42, 27]
abbrev dktX7_worth_0 : List UInt8 := dkwX7_worth_0 ++ dktX7_worth_1
theorem dksX7_worth_0 : cX7_worth.data.toList.drop 0 = dktX7_worth_0 := by decide +kernel
theorem dksX7_worth_1 : cX7_worth.data.toList.drop 23 = dktX7_worth_1 := dk_seg dksX7_worth_0 23 rfl rfl
theorem dX7_worth_0 : decode cX7_worth 0 = .ok (.aload_n 0, 1) := dk_42 (dk_at dksX7_worth_0 0 rfl rfl)
theorem dX7_worth_1 : decode cX7_worth 1 = .ok (.invokevirtual 92, 3) := dk_182 0 92 (dk_at dksX7_worth_0 1 rfl rfl)
theorem dX7_worth_4 : decode cX7_worth 4 = .ok (.ifCond .eq 25, 3) := dk_153 0 25 (dk_at dksX7_worth_0 4 rfl rfl)
theorem dX7_worth_7 : decode cX7_worth 7 = .ok (.iload_n 1, 1) := dk_27 (dk_at dksX7_worth_0 7 rfl rfl)
theorem dX7_worth_8 : decode cX7_worth 8 = .ok (.i2l, 1) := dk_133 (dk_at dksX7_worth_0 8 rfl rfl)
theorem dX7_worth_9 : decode cX7_worth 9 = .ok (.lconst 0, 1) := dk_9 (dk_at dksX7_worth_0 9 rfl rfl)
theorem dX7_worth_10 : decode cX7_worth 10 = .ok (.aload_n 0, 1) := dk_42 (dk_at dksX7_worth_0 10 rfl rfl)
theorem dX7_worth_11 : decode cX7_worth 11 = .ok (.invokevirtual 402, 3) := dk_182 1 146 (dk_at dksX7_worth_0 11 rfl rfl)
theorem dX7_worth_14 : decode cX7_worth 14 = .ok (.i2l, 1) := dk_133 (dk_at dksX7_worth_0 14 rfl rfl)
theorem dX7_worth_15 : decode cX7_worth 15 = .ok (.invokestatic 76, 3) := dk_184 0 76 (dk_at dksX7_worth_0 15 rfl rfl)
theorem dX7_worth_18 : decode cX7_worth 18 = .ok (.ifCond .eq 11, 3) := dk_153 0 11 (dk_at dksX7_worth_0 18 rfl rfl)
theorem dX7_worth_21 : decode cX7_worth 21 = .ok (.aload_n 0, 1) := dk_42 (dk_at dksX7_worth_0 21 rfl rfl)
theorem dX7_worth_22 : decode cX7_worth 22 = .ok (.iload_n 1, 1) := dk_27 (dk_at dksX7_worth_0 22 rfl rfl)
theorem dX7_worth_23 : decode cX7_worth 23 = .ok (.invokevirtual 455, 3) := dk_182 1 199 (dk_at dksX7_worth_1 0 rfl rfl)
theorem dX7_worth_26 : decode cX7_worth 26 = .ok (.goto 5, 3) := dk_167 0 5 (dk_at dksX7_worth_1 3 rfl rfl)
theorem dX7_worth_29 : decode cX7_worth 29 = .ok (.bipush (-2), 2) := dk_16 254 (dk_at dksX7_worth_1 6 rfl rfl)
theorem dX7_worth_31 : decode cX7_worth 31 = .ok (.ireturn, 1) := dk_172 (dk_at dksX7_worth_1 8 rfl rfl)
abbrev cX7_worthOf : ByteArray := prog_22_method_139_code
def yX7_worthOf : MethodName := ⟨RX7, "worthOf", "(I)I"⟩
def dkwX7_worthOf_0 : List UInt8 := [42, 182, 1, 52, 42, 42, 180, 1, 26, 42, 182, 1, 146, 27, 2, 130, 126, 128, 182, 1, 171, 172]
abbrev dktX7_worthOf_0 : List UInt8 := dkwX7_worthOf_0 ++ []
theorem dksX7_worthOf_0 : cX7_worthOf.data.toList.drop 0 = dktX7_worthOf_0 := by decide +kernel
theorem dX7_worthOf_0 : decode cX7_worthOf 0 = .ok (.aload_n 0, 1) := dk_42 (dk_at dksX7_worthOf_0 0 rfl rfl)
theorem dX7_worthOf_1 : decode cX7_worthOf 1 = .ok (.invokevirtual 308, 3) := dk_182 1 52 (dk_at dksX7_worthOf_0 1 rfl rfl)
theorem dX7_worthOf_4 : decode cX7_worthOf 4 = .ok (.aload_n 0, 1) := dk_42 (dk_at dksX7_worthOf_0 4 rfl rfl)
theorem dX7_worthOf_5 : decode cX7_worthOf 5 = .ok (.aload_n 0, 1) := dk_42 (dk_at dksX7_worthOf_0 5 rfl rfl)
theorem dX7_worthOf_6 : decode cX7_worthOf 6 = .ok (.getfield 282, 3) := dk_180 1 26 (dk_at dksX7_worthOf_0 6 rfl rfl)
theorem dX7_worthOf_9 : decode cX7_worthOf 9 = .ok (.aload_n 0, 1) := dk_42 (dk_at dksX7_worthOf_0 9 rfl rfl)
theorem dX7_worthOf_10 : decode cX7_worthOf 10 = .ok (.invokevirtual 402, 3) := dk_182 1 146 (dk_at dksX7_worthOf_0 10 rfl rfl)
theorem dX7_worthOf_13 : decode cX7_worthOf 13 = .ok (.iload_n 1, 1) := dk_27 (dk_at dksX7_worthOf_0 13 rfl rfl)
theorem dX7_worthOf_14 : decode cX7_worthOf 14 = .ok (.iconst (-1), 1) := dk_2 (dk_at dksX7_worthOf_0 14 rfl rfl)
theorem dX7_worthOf_15 : decode cX7_worthOf 15 = .ok (.ixor, 1) := dk_130 (dk_at dksX7_worthOf_0 15 rfl rfl)
theorem dX7_worthOf_16 : decode cX7_worthOf 16 = .ok (.iand, 1) := dk_126 (dk_at dksX7_worthOf_0 16 rfl rfl)
theorem dX7_worthOf_17 : decode cX7_worthOf 17 = .ok (.ior, 1) := dk_128 (dk_at dksX7_worthOf_0 17 rfl rfl)
theorem dX7_worthOf_18 : decode cX7_worthOf 18 = .ok (.invokevirtual 427, 3) := dk_182 1 171 (dk_at dksX7_worthOf_0 18 rfl rfl)
theorem dX7_worthOf_21 : decode cX7_worthOf 21 = .ok (.ireturn, 1) := dk_172 (dk_at dksX7_worthOf_0 21 rfl rfl)
abbrev cX7_share : ByteArray := prog_22_method_144_code
def yX7_share : MethodName := ⟨RX7, "share", "(II)I"⟩
def dkwX7_share_6 : List UInt8 := [133, 28, 184, 1, 214, 136, 172]
abbrev dktX7_share_6 : List UInt8 := dkwX7_share_6 ++ []
def dkwX7_share_5 : List UInt8 := [180, 0, 55, 21, 6, 46, 100, 133, 105, 97, 55, 4, 132, 6, 1, 167, 255, 187, 22, 4, 29, 184, 1, 211]
abbrev dktX7_share_5 : List UInt8 := dkwX7_share_5 ++ dktX7_share_6
def dkwX7_share_4 : List UInt8 := [21, 6, 184, 1, 162, 100, 184, 1, 211, 133, 105, 42, 180, 0, 55, 21, 6, 4, 27, 120, 128, 46, 42]
abbrev dktX7_share_4 : List UInt8 := dkwX7_share_4 ++ dktX7_share_5
def dkwX7_share_3 : List UInt8 := [21, 6, 27, 184, 1, 32, 154, 0, 52, 22, 4, 21, 6, 184, 1, 162, 184, 1, 211, 133, 29, 4, 100]
abbrev dktX7_share_3 : List UInt8 := dkwX7_share_3 ++ dktX7_share_4
def dkwX7_share_2 : List UInt8 := [182, 1, 199, 79, 132, 4, 1, 167, 255, 232, 9, 55, 4, 3, 54, 6, 21, 6, 4, 29, 120, 162, 0, 67]
abbrev dktX7_share_2 : List UInt8 := dkwX7_share_2 ++ dktX7_share_3
def dkwX7_share_1 : List UInt8 := [182, 0, 80, 62, 3, 54, 4, 21, 4, 4, 29, 120, 162, 0, 22, 42, 180, 0, 55, 21, 4, 42, 21, 4]
abbrev dktX7_share_1 : List UInt8 := dkwX7_share_1 ++ dktX7_share_2
def dkwX7_share_0 : List UInt8 := [42, 27, 182, 1, 0, 153, 0, 13, 28, 133, 9, 10, 184, 0, 76, 154, 0, 7, 19, 1, 210, 172, 42]
abbrev dktX7_share_0 : List UInt8 := dkwX7_share_0 ++ dktX7_share_1
theorem dksX7_share_0 : cX7_share.data.toList.drop 0 = dktX7_share_0 := by decide +kernel
theorem dksX7_share_1 : cX7_share.data.toList.drop 23 = dktX7_share_1 := dk_seg dksX7_share_0 23 rfl rfl
theorem dksX7_share_2 : cX7_share.data.toList.drop 47 = dktX7_share_2 := dk_seg dksX7_share_1 24 rfl rfl
theorem dksX7_share_3 : cX7_share.data.toList.drop 71 = dktX7_share_3 := dk_seg dksX7_share_2 24 rfl rfl
theorem dksX7_share_4 : cX7_share.data.toList.drop 94 = dktX7_share_4 := dk_seg dksX7_share_3 23 rfl rfl
theorem dksX7_share_5 : cX7_share.data.toList.drop 117 = dktX7_share_5 := dk_seg dksX7_share_4 23 rfl rfl
theorem dksX7_share_6 : cX7_share.data.toList.drop 141 = dktX7_share_6 := dk_seg dksX7_share_5 24 rfl rfl
theorem dX7_share_0 : decode cX7_share 0 = .ok (.aload_n 0, 1) := dk_42 (dk_at dksX7_share_0 0 rfl rfl)
theorem dX7_share_1 : decode cX7_share 1 = .ok (.iload_n 1, 1) := dk_27 (dk_at dksX7_share_0 1 rfl rfl)
theorem dX7_share_2 : decode cX7_share 2 = .ok (.invokevirtual 256, 3) := dk_182 1 0 (dk_at dksX7_share_0 2 rfl rfl)
theorem dX7_share_5 : decode cX7_share 5 = .ok (.ifCond .eq 13, 3) := dk_153 0 13 (dk_at dksX7_share_0 5 rfl rfl)
theorem dX7_share_8 : decode cX7_share 8 = .ok (.iload_n 2, 1) := dk_28 (dk_at dksX7_share_0 8 rfl rfl)
theorem dX7_share_9 : decode cX7_share 9 = .ok (.i2l, 1) := dk_133 (dk_at dksX7_share_0 9 rfl rfl)
theorem dX7_share_10 : decode cX7_share 10 = .ok (.lconst 0, 1) := dk_9 (dk_at dksX7_share_0 10 rfl rfl)
theorem dX7_share_11 : decode cX7_share 11 = .ok (.lconst 1, 1) := dk_10 (dk_at dksX7_share_0 11 rfl rfl)
theorem dX7_share_12 : decode cX7_share 12 = .ok (.invokestatic 76, 3) := dk_184 0 76 (dk_at dksX7_share_0 12 rfl rfl)
theorem dX7_share_15 : decode cX7_share 15 = .ok (.ifCond .ne 7, 3) := dk_154 0 7 (dk_at dksX7_share_0 15 rfl rfl)
theorem dX7_share_18 : decode cX7_share 18 = .ok (.ldc_w 466, 3) := dk_19 1 210 (dk_at dksX7_share_0 18 rfl rfl)
theorem dX7_share_21 : decode cX7_share 21 = .ok (.ireturn, 1) := dk_172 (dk_at dksX7_share_0 21 rfl rfl)
theorem dX7_share_22 : decode cX7_share 22 = .ok (.aload_n 0, 1) := dk_42 (dk_at dksX7_share_0 22 rfl rfl)
theorem dX7_share_23 : decode cX7_share 23 = .ok (.invokevirtual 80, 3) := dk_182 0 80 (dk_at dksX7_share_1 0 rfl rfl)
theorem dX7_share_26 : decode cX7_share 26 = .ok (.istore_n 3, 1) := dk_62 (dk_at dksX7_share_1 3 rfl rfl)
theorem dX7_share_27 : decode cX7_share 27 = .ok (.iconst 0, 1) := dk_3 (dk_at dksX7_share_1 4 rfl rfl)
theorem dX7_share_28 : decode cX7_share 28 = .ok (.istore 4, 2) := dk_54 4 (dk_at dksX7_share_1 5 rfl rfl)
theorem dX7_share_30 : decode cX7_share 30 = .ok (.iload 4, 2) := dk_21 4 (dk_at dksX7_share_1 7 rfl rfl)
theorem dX7_share_32 : decode cX7_share 32 = .ok (.iconst 1, 1) := dk_4 (dk_at dksX7_share_1 9 rfl rfl)
theorem dX7_share_33 : decode cX7_share 33 = .ok (.iload_n 3, 1) := dk_29 (dk_at dksX7_share_1 10 rfl rfl)
theorem dX7_share_34 : decode cX7_share 34 = .ok (.ishl, 1) := dk_120 (dk_at dksX7_share_1 11 rfl rfl)
theorem dX7_share_35 : decode cX7_share 35 = .ok (.if_icmp .ge 22, 3) := dk_162 0 22 (dk_at dksX7_share_1 12 rfl rfl)
theorem dX7_share_38 : decode cX7_share 38 = .ok (.aload_n 0, 1) := dk_42 (dk_at dksX7_share_1 15 rfl rfl)
theorem dX7_share_39 : decode cX7_share 39 = .ok (.getfield 55, 3) := dk_180 0 55 (dk_at dksX7_share_1 16 rfl rfl)
theorem dX7_share_42 : decode cX7_share 42 = .ok (.iload 4, 2) := dk_21 4 (dk_at dksX7_share_1 19 rfl rfl)
theorem dX7_share_44 : decode cX7_share 44 = .ok (.aload_n 0, 1) := dk_42 (dk_at dksX7_share_1 21 rfl rfl)
theorem dX7_share_45 : decode cX7_share 45 = .ok (.iload 4, 2) := dk_21 4 (dk_at dksX7_share_1 22 rfl rfl)
theorem dX7_share_47 : decode cX7_share 47 = .ok (.invokevirtual 455, 3) := dk_182 1 199 (dk_at dksX7_share_2 0 rfl rfl)
theorem dX7_share_50 : decode cX7_share 50 = .ok (.iastore, 1) := dk_79 (dk_at dksX7_share_2 3 rfl rfl)
theorem dX7_share_51 : decode cX7_share 51 = .ok (.iinc 4 1, 3) := dk_132 4 1 (dk_at dksX7_share_2 4 rfl rfl)
theorem dX7_share_54 : decode cX7_share 54 = .ok (.goto (-24), 3) := dk_167 255 232 (dk_at dksX7_share_2 7 rfl rfl)
theorem dX7_share_57 : decode cX7_share 57 = .ok (.lconst 0, 1) := dk_9 (dk_at dksX7_share_2 10 rfl rfl)
theorem dX7_share_58 : decode cX7_share 58 = .ok (.lstore 4, 2) := dk_55 4 (dk_at dksX7_share_2 11 rfl rfl)
theorem dX7_share_60 : decode cX7_share 60 = .ok (.iconst 0, 1) := dk_3 (dk_at dksX7_share_2 13 rfl rfl)
theorem dX7_share_61 : decode cX7_share 61 = .ok (.istore 6, 2) := dk_54 6 (dk_at dksX7_share_2 14 rfl rfl)
theorem dX7_share_63 : decode cX7_share 63 = .ok (.iload 6, 2) := dk_21 6 (dk_at dksX7_share_2 16 rfl rfl)
theorem dX7_share_65 : decode cX7_share 65 = .ok (.iconst 1, 1) := dk_4 (dk_at dksX7_share_2 18 rfl rfl)
theorem dX7_share_66 : decode cX7_share 66 = .ok (.iload_n 3, 1) := dk_29 (dk_at dksX7_share_2 19 rfl rfl)
theorem dX7_share_67 : decode cX7_share 67 = .ok (.ishl, 1) := dk_120 (dk_at dksX7_share_2 20 rfl rfl)
theorem dX7_share_68 : decode cX7_share 68 = .ok (.if_icmp .ge 67, 3) := dk_162 0 67 (dk_at dksX7_share_2 21 rfl rfl)
theorem dX7_share_71 : decode cX7_share 71 = .ok (.iload 6, 2) := dk_21 6 (dk_at dksX7_share_3 0 rfl rfl)
theorem dX7_share_73 : decode cX7_share 73 = .ok (.iload_n 1, 1) := dk_27 (dk_at dksX7_share_3 2 rfl rfl)
theorem dX7_share_74 : decode cX7_share 74 = .ok (.invokestatic 288, 3) := dk_184 1 32 (dk_at dksX7_share_3 3 rfl rfl)
theorem dX7_share_77 : decode cX7_share 77 = .ok (.ifCond .ne 52, 3) := dk_154 0 52 (dk_at dksX7_share_3 6 rfl rfl)
theorem dX7_share_80 : decode cX7_share 80 = .ok (.lload 4, 2) := dk_22 4 (dk_at dksX7_share_3 9 rfl rfl)
theorem dX7_share_82 : decode cX7_share 82 = .ok (.iload 6, 2) := dk_21 6 (dk_at dksX7_share_3 11 rfl rfl)
theorem dX7_share_84 : decode cX7_share 84 = .ok (.invokestatic 418, 3) := dk_184 1 162 (dk_at dksX7_share_3 13 rfl rfl)
theorem dX7_share_87 : decode cX7_share 87 = .ok (.invokestatic 467, 3) := dk_184 1 211 (dk_at dksX7_share_3 16 rfl rfl)
theorem dX7_share_90 : decode cX7_share 90 = .ok (.i2l, 1) := dk_133 (dk_at dksX7_share_3 19 rfl rfl)
theorem dX7_share_91 : decode cX7_share 91 = .ok (.iload_n 3, 1) := dk_29 (dk_at dksX7_share_3 20 rfl rfl)
theorem dX7_share_92 : decode cX7_share 92 = .ok (.iconst 1, 1) := dk_4 (dk_at dksX7_share_3 21 rfl rfl)
theorem dX7_share_93 : decode cX7_share 93 = .ok (.isub, 1) := dk_100 (dk_at dksX7_share_3 22 rfl rfl)
theorem dX7_share_94 : decode cX7_share 94 = .ok (.iload 6, 2) := dk_21 6 (dk_at dksX7_share_4 0 rfl rfl)
theorem dX7_share_96 : decode cX7_share 96 = .ok (.invokestatic 418, 3) := dk_184 1 162 (dk_at dksX7_share_4 2 rfl rfl)
theorem dX7_share_99 : decode cX7_share 99 = .ok (.isub, 1) := dk_100 (dk_at dksX7_share_4 5 rfl rfl)
theorem dX7_share_100 : decode cX7_share 100 = .ok (.invokestatic 467, 3) := dk_184 1 211 (dk_at dksX7_share_4 6 rfl rfl)
theorem dX7_share_103 : decode cX7_share 103 = .ok (.i2l, 1) := dk_133 (dk_at dksX7_share_4 9 rfl rfl)
theorem dX7_share_104 : decode cX7_share 104 = .ok (.lmul, 1) := dk_105 (dk_at dksX7_share_4 10 rfl rfl)
theorem dX7_share_105 : decode cX7_share 105 = .ok (.aload_n 0, 1) := dk_42 (dk_at dksX7_share_4 11 rfl rfl)
theorem dX7_share_106 : decode cX7_share 106 = .ok (.getfield 55, 3) := dk_180 0 55 (dk_at dksX7_share_4 12 rfl rfl)
theorem dX7_share_109 : decode cX7_share 109 = .ok (.iload 6, 2) := dk_21 6 (dk_at dksX7_share_4 15 rfl rfl)
theorem dX7_share_111 : decode cX7_share 111 = .ok (.iconst 1, 1) := dk_4 (dk_at dksX7_share_4 17 rfl rfl)
theorem dX7_share_112 : decode cX7_share 112 = .ok (.iload_n 1, 1) := dk_27 (dk_at dksX7_share_4 18 rfl rfl)
theorem dX7_share_113 : decode cX7_share 113 = .ok (.ishl, 1) := dk_120 (dk_at dksX7_share_4 19 rfl rfl)
theorem dX7_share_114 : decode cX7_share 114 = .ok (.ior, 1) := dk_128 (dk_at dksX7_share_4 20 rfl rfl)
theorem dX7_share_115 : decode cX7_share 115 = .ok (.iaload, 1) := dk_46 (dk_at dksX7_share_4 21 rfl rfl)
theorem dX7_share_116 : decode cX7_share 116 = .ok (.aload_n 0, 1) := dk_42 (dk_at dksX7_share_4 22 rfl rfl)
theorem dX7_share_117 : decode cX7_share 117 = .ok (.getfield 55, 3) := dk_180 0 55 (dk_at dksX7_share_5 0 rfl rfl)
theorem dX7_share_120 : decode cX7_share 120 = .ok (.iload 6, 2) := dk_21 6 (dk_at dksX7_share_5 3 rfl rfl)
theorem dX7_share_122 : decode cX7_share 122 = .ok (.iaload, 1) := dk_46 (dk_at dksX7_share_5 5 rfl rfl)
theorem dX7_share_123 : decode cX7_share 123 = .ok (.isub, 1) := dk_100 (dk_at dksX7_share_5 6 rfl rfl)
theorem dX7_share_124 : decode cX7_share 124 = .ok (.i2l, 1) := dk_133 (dk_at dksX7_share_5 7 rfl rfl)
theorem dX7_share_125 : decode cX7_share 125 = .ok (.lmul, 1) := dk_105 (dk_at dksX7_share_5 8 rfl rfl)
theorem dX7_share_126 : decode cX7_share 126 = .ok (.ladd, 1) := dk_97 (dk_at dksX7_share_5 9 rfl rfl)
theorem dX7_share_127 : decode cX7_share 127 = .ok (.lstore 4, 2) := dk_55 4 (dk_at dksX7_share_5 10 rfl rfl)
theorem dX7_share_129 : decode cX7_share 129 = .ok (.iinc 6 1, 3) := dk_132 6 1 (dk_at dksX7_share_5 12 rfl rfl)
theorem dX7_share_132 : decode cX7_share 132 = .ok (.goto (-69), 3) := dk_167 255 187 (dk_at dksX7_share_5 15 rfl rfl)
theorem dX7_share_135 : decode cX7_share 135 = .ok (.lload 4, 2) := dk_22 4 (dk_at dksX7_share_5 18 rfl rfl)
theorem dX7_share_137 : decode cX7_share 137 = .ok (.iload_n 3, 1) := dk_29 (dk_at dksX7_share_5 20 rfl rfl)
theorem dX7_share_138 : decode cX7_share 138 = .ok (.invokestatic 467, 3) := dk_184 1 211 (dk_at dksX7_share_5 21 rfl rfl)
theorem dX7_share_141 : decode cX7_share 141 = .ok (.i2l, 1) := dk_133 (dk_at dksX7_share_6 0 rfl rfl)
theorem dX7_share_142 : decode cX7_share 142 = .ok (.iload_n 2, 1) := dk_28 (dk_at dksX7_share_6 1 rfl rfl)
theorem dX7_share_143 : decode cX7_share 143 = .ok (.invokestatic 470, 3) := dk_184 1 214 (dk_at dksX7_share_6 2 rfl rfl)
theorem dX7_share_146 : decode cX7_share 146 = .ok (.l2i, 1) := dk_136 (dk_at dksX7_share_6 5 rfl rfl)
theorem dX7_share_147 : decode cX7_share 147 = .ok (.ireturn, 1) := dk_172 (dk_at dksX7_share_6 6 rfl rfl)
abbrev cX7_factorial : ByteArray := prog_22_method_141_code
def yX7_factorial : MethodName := ⟨RX7, "factorial", "(I)I"⟩
def dkwX7_factorial_0 : List UInt8 := [4, 60, 5, 61, 28, 26, 163, 0, 13, 27, 28, 104, 60, 132, 2, 1, 167, 255, 244, 27, 172]
abbrev dktX7_factorial_0 : List UInt8 := dkwX7_factorial_0 ++ []
theorem dksX7_factorial_0 : cX7_factorial.data.toList.drop 0 = dktX7_factorial_0 := by decide +kernel
theorem dX7_factorial_0 : decode cX7_factorial 0 = .ok (.iconst 1, 1) := dk_4 (dk_at dksX7_factorial_0 0 rfl rfl)
theorem dX7_factorial_1 : decode cX7_factorial 1 = .ok (.istore_n 1, 1) := dk_60 (dk_at dksX7_factorial_0 1 rfl rfl)
theorem dX7_factorial_2 : decode cX7_factorial 2 = .ok (.iconst 2, 1) := dk_5 (dk_at dksX7_factorial_0 2 rfl rfl)
theorem dX7_factorial_3 : decode cX7_factorial 3 = .ok (.istore_n 2, 1) := dk_61 (dk_at dksX7_factorial_0 3 rfl rfl)
theorem dX7_factorial_4 : decode cX7_factorial 4 = .ok (.iload_n 2, 1) := dk_28 (dk_at dksX7_factorial_0 4 rfl rfl)
theorem dX7_factorial_5 : decode cX7_factorial 5 = .ok (.iload_n 0, 1) := dk_26 (dk_at dksX7_factorial_0 5 rfl rfl)
theorem dX7_factorial_6 : decode cX7_factorial 6 = .ok (.if_icmp .gt 13, 3) := dk_163 0 13 (dk_at dksX7_factorial_0 6 rfl rfl)
theorem dX7_factorial_9 : decode cX7_factorial 9 = .ok (.iload_n 1, 1) := dk_27 (dk_at dksX7_factorial_0 9 rfl rfl)
theorem dX7_factorial_10 : decode cX7_factorial 10 = .ok (.iload_n 2, 1) := dk_28 (dk_at dksX7_factorial_0 10 rfl rfl)
theorem dX7_factorial_11 : decode cX7_factorial 11 = .ok (.imul, 1) := dk_104 (dk_at dksX7_factorial_0 11 rfl rfl)
theorem dX7_factorial_12 : decode cX7_factorial 12 = .ok (.istore_n 1, 1) := dk_60 (dk_at dksX7_factorial_0 12 rfl rfl)
theorem dX7_factorial_13 : decode cX7_factorial 13 = .ok (.iinc 2 1, 3) := dk_132 2 1 (dk_at dksX7_factorial_0 13 rfl rfl)
theorem dX7_factorial_16 : decode cX7_factorial 16 = .ok (.goto (-12), 3) := dk_167 255 244 (dk_at dksX7_factorial_0 16 rfl rfl)
theorem dX7_factorial_19 : decode cX7_factorial 19 = .ok (.iload_n 1, 1) := dk_27 (dk_at dksX7_factorial_0 19 rfl rfl)
theorem dX7_factorial_20 : decode cX7_factorial 20 = .ok (.ireturn, 1) := dk_172 (dk_at dksX7_factorial_0 20 rfl rfl)
abbrev cX7_part : ByteArray := prog_22_method_143_code
def yX7_part : MethodName := ⟨RX7, "part", "(JJI)J"⟩
def dkwX7_part_0 : List UInt8 := [21, 4, 154, 0, 7, 30, 167, 0, 4, 32, 30, 32, 184, 1, 206, 109, 173]
abbrev dktX7_part_0 : List UInt8 := dkwX7_part_0 ++ []
theorem dksX7_part_0 : cX7_part.data.toList.drop 0 = dktX7_part_0 := by decide +kernel
theorem dX7_part_0 : decode cX7_part 0 = .ok (.iload 4, 2) := dk_21 4 (dk_at dksX7_part_0 0 rfl rfl)
theorem dX7_part_2 : decode cX7_part 2 = .ok (.ifCond .ne 7, 3) := dk_154 0 7 (dk_at dksX7_part_0 2 rfl rfl)
theorem dX7_part_5 : decode cX7_part 5 = .ok (.lload_n 0, 1) := dk_30 (dk_at dksX7_part_0 5 rfl rfl)
theorem dX7_part_6 : decode cX7_part 6 = .ok (.goto 4, 3) := dk_167 0 4 (dk_at dksX7_part_0 6 rfl rfl)
theorem dX7_part_9 : decode cX7_part 9 = .ok (.lload_n 2, 1) := dk_32 (dk_at dksX7_part_0 9 rfl rfl)
theorem dX7_part_10 : decode cX7_part 10 = .ok (.lload_n 0, 1) := dk_30 (dk_at dksX7_part_0 10 rfl rfl)
theorem dX7_part_11 : decode cX7_part 11 = .ok (.lload_n 2, 1) := dk_32 (dk_at dksX7_part_0 11 rfl rfl)
theorem dX7_part_12 : decode cX7_part 12 = .ok (.invokestatic 462, 3) := dk_184 1 206 (dk_at dksX7_part_0 12 rfl rfl)
theorem dX7_part_15 : decode cX7_part 15 = .ok (.ldiv, 1) := dk_109 (dk_at dksX7_part_0 15 rfl rfl)
theorem dX7_part_16 : decode cX7_part 16 = .ok (.lreturn, 1) := dk_173 (dk_at dksX7_part_0 16 rfl rfl)
abbrev cX7_divisor : ByteArray := prog_22_method_142_code
def yX7_divisor : MethodName := ⟨RX7, "divisor", "(JJ)J"⟩
def dkwX7_divisor_1 : List UInt8 := [22, 6, 55, 4, 22, 8, 55, 6, 167, 255, 234, 22, 4, 173]
abbrev dktX7_divisor_1 : List UInt8 := dkwX7_divisor_1 ++ []
def dkwX7_divisor_0 : List UInt8 := [30, 184, 1, 202, 55, 4, 32, 55, 6, 22, 6, 9, 148, 153, 0, 21, 22, 4, 22, 6, 113, 55, 8]
abbrev dktX7_divisor_0 : List UInt8 := dkwX7_divisor_0 ++ dktX7_divisor_1
theorem dksX7_divisor_0 : cX7_divisor.data.toList.drop 0 = dktX7_divisor_0 := by decide +kernel
theorem dksX7_divisor_1 : cX7_divisor.data.toList.drop 23 = dktX7_divisor_1 := dk_seg dksX7_divisor_0 23 rfl rfl
theorem dX7_divisor_0 : decode cX7_divisor 0 = .ok (.lload_n 0, 1) := dk_30 (dk_at dksX7_divisor_0 0 rfl rfl)
theorem dX7_divisor_1 : decode cX7_divisor 1 = .ok (.invokestatic 458, 3) := dk_184 1 202 (dk_at dksX7_divisor_0 1 rfl rfl)
theorem dX7_divisor_4 : decode cX7_divisor 4 = .ok (.lstore 4, 2) := dk_55 4 (dk_at dksX7_divisor_0 4 rfl rfl)
theorem dX7_divisor_6 : decode cX7_divisor 6 = .ok (.lload_n 2, 1) := dk_32 (dk_at dksX7_divisor_0 6 rfl rfl)
theorem dX7_divisor_7 : decode cX7_divisor 7 = .ok (.lstore 6, 2) := dk_55 6 (dk_at dksX7_divisor_0 7 rfl rfl)
theorem dX7_divisor_9 : decode cX7_divisor 9 = .ok (.lload 6, 2) := dk_22 6 (dk_at dksX7_divisor_0 9 rfl rfl)
theorem dX7_divisor_11 : decode cX7_divisor 11 = .ok (.lconst 0, 1) := dk_9 (dk_at dksX7_divisor_0 11 rfl rfl)
theorem dX7_divisor_12 : decode cX7_divisor 12 = .ok (.lcmp, 1) := dk_148 (dk_at dksX7_divisor_0 12 rfl rfl)
theorem dX7_divisor_13 : decode cX7_divisor 13 = .ok (.ifCond .eq 21, 3) := dk_153 0 21 (dk_at dksX7_divisor_0 13 rfl rfl)
theorem dX7_divisor_16 : decode cX7_divisor 16 = .ok (.lload 4, 2) := dk_22 4 (dk_at dksX7_divisor_0 16 rfl rfl)
theorem dX7_divisor_18 : decode cX7_divisor 18 = .ok (.lload 6, 2) := dk_22 6 (dk_at dksX7_divisor_0 18 rfl rfl)
theorem dX7_divisor_20 : decode cX7_divisor 20 = .ok (.lrem, 1) := dk_113 (dk_at dksX7_divisor_0 20 rfl rfl)
theorem dX7_divisor_21 : decode cX7_divisor 21 = .ok (.lstore 8, 2) := dk_55 8 (dk_at dksX7_divisor_0 21 rfl rfl)
theorem dX7_divisor_23 : decode cX7_divisor 23 = .ok (.lload 6, 2) := dk_22 6 (dk_at dksX7_divisor_1 0 rfl rfl)
theorem dX7_divisor_25 : decode cX7_divisor 25 = .ok (.lstore 4, 2) := dk_55 4 (dk_at dksX7_divisor_1 2 rfl rfl)
theorem dX7_divisor_27 : decode cX7_divisor 27 = .ok (.lload 8, 2) := dk_22 8 (dk_at dksX7_divisor_1 4 rfl rfl)
theorem dX7_divisor_29 : decode cX7_divisor 29 = .ok (.lstore 6, 2) := dk_55 6 (dk_at dksX7_divisor_1 6 rfl rfl)
theorem dX7_divisor_31 : decode cX7_divisor 31 = .ok (.goto (-22), 3) := dk_167 255 234 (dk_at dksX7_divisor_1 8 rfl rfl)
theorem dX7_divisor_34 : decode cX7_divisor 34 = .ok (.lload 4, 2) := dk_22 4 (dk_at dksX7_divisor_1 11 rfl rfl)
theorem dX7_divisor_36 : decode cX7_divisor 36 = .ok (.lreturn, 1) := dk_173 (dk_at dksX7_divisor_1 13 rfl rfl)
abbrev cX7_rests : ByteArray := prog_22_method_147_code
def yX7_rests : MethodName := ⟨RX7, "rests", "(II)I"⟩
def dkwX7_rests_5 : List UInt8 := [29, 172]
abbrev dktX7_rests_5 : List UInt8 := dkwX7_rests_5 ++ []
def dkwX7_rests_4 : List UInt8 := [54, 7, 29, 21, 7, 153, 0, 10, 4, 21, 4, 120, 167, 0, 4, 3, 128, 62, 132, 4, 1, 167, 255, 158]
abbrev dktX7_rests_4 : List UInt8 := dkwX7_rests_4 ++ dktX7_rests_5
def dkwX7_rests_3 : List UInt8 := [182, 1, 221, 42, 27, 28, 21, 5, 4, 21, 6, 100, 4, 182, 1, 221, 161, 0, 7, 4, 167, 0, 4, 3]
abbrev dktX7_rests_3 : List UInt8 := dkwX7_rests_3 ++ dktX7_rests_4
def dkwX7_rests_2 : List UInt8 := [27, 28, 4, 21, 5, 100, 21, 6, 3, 182, 1, 221, 161, 0, 34, 42, 27, 28, 21, 5, 21, 6, 4]
abbrev dktX7_rests_2 : List UInt8 := dkwX7_rests_2 ++ dktX7_rests_3
def dkwX7_rests_1 : List UInt8 := [21, 4, 4, 126, 54, 5, 21, 4, 4, 122, 54, 6, 42, 27, 28, 21, 5, 21, 6, 3, 182, 1, 221, 42]
abbrev dktX7_rests_1 : List UInt8 := dkwX7_rests_1 ++ dktX7_rests_2
def dkwX7_rests_0 : List UInt8 := [42, 27, 28, 182, 1, 218, 154, 0, 6, 16, 254, 172, 3, 62, 3, 54, 4, 21, 4, 7, 162, 0, 98]
abbrev dktX7_rests_0 : List UInt8 := dkwX7_rests_0 ++ dktX7_rests_1
theorem dksX7_rests_0 : cX7_rests.data.toList.drop 0 = dktX7_rests_0 := by decide +kernel
theorem dksX7_rests_1 : cX7_rests.data.toList.drop 23 = dktX7_rests_1 := dk_seg dksX7_rests_0 23 rfl rfl
theorem dksX7_rests_2 : cX7_rests.data.toList.drop 47 = dktX7_rests_2 := dk_seg dksX7_rests_1 24 rfl rfl
theorem dksX7_rests_3 : cX7_rests.data.toList.drop 70 = dktX7_rests_3 := dk_seg dksX7_rests_2 23 rfl rfl
theorem dksX7_rests_4 : cX7_rests.data.toList.drop 94 = dktX7_rests_4 := dk_seg dksX7_rests_3 24 rfl rfl
theorem dksX7_rests_5 : cX7_rests.data.toList.drop 118 = dktX7_rests_5 := dk_seg dksX7_rests_4 24 rfl rfl
theorem dX7_rests_0 : decode cX7_rests 0 = .ok (.aload_n 0, 1) := dk_42 (dk_at dksX7_rests_0 0 rfl rfl)
theorem dX7_rests_1 : decode cX7_rests 1 = .ok (.iload_n 1, 1) := dk_27 (dk_at dksX7_rests_0 1 rfl rfl)
theorem dX7_rests_2 : decode cX7_rests 2 = .ok (.iload_n 2, 1) := dk_28 (dk_at dksX7_rests_0 2 rfl rfl)
theorem dX7_rests_3 : decode cX7_rests 3 = .ok (.invokevirtual 474, 3) := dk_182 1 218 (dk_at dksX7_rests_0 3 rfl rfl)
theorem dX7_rests_6 : decode cX7_rests 6 = .ok (.ifCond .ne 6, 3) := dk_154 0 6 (dk_at dksX7_rests_0 6 rfl rfl)
theorem dX7_rests_9 : decode cX7_rests 9 = .ok (.bipush (-2), 2) := dk_16 254 (dk_at dksX7_rests_0 9 rfl rfl)
theorem dX7_rests_11 : decode cX7_rests 11 = .ok (.ireturn, 1) := dk_172 (dk_at dksX7_rests_0 11 rfl rfl)
theorem dX7_rests_12 : decode cX7_rests 12 = .ok (.iconst 0, 1) := dk_3 (dk_at dksX7_rests_0 12 rfl rfl)
theorem dX7_rests_13 : decode cX7_rests 13 = .ok (.istore_n 3, 1) := dk_62 (dk_at dksX7_rests_0 13 rfl rfl)
theorem dX7_rests_14 : decode cX7_rests 14 = .ok (.iconst 0, 1) := dk_3 (dk_at dksX7_rests_0 14 rfl rfl)
theorem dX7_rests_15 : decode cX7_rests 15 = .ok (.istore 4, 2) := dk_54 4 (dk_at dksX7_rests_0 15 rfl rfl)
theorem dX7_rests_17 : decode cX7_rests 17 = .ok (.iload 4, 2) := dk_21 4 (dk_at dksX7_rests_0 17 rfl rfl)
theorem dX7_rests_19 : decode cX7_rests 19 = .ok (.iconst 4, 1) := dk_7 (dk_at dksX7_rests_0 19 rfl rfl)
theorem dX7_rests_20 : decode cX7_rests 20 = .ok (.if_icmp .ge 98, 3) := dk_162 0 98 (dk_at dksX7_rests_0 20 rfl rfl)
theorem dX7_rests_23 : decode cX7_rests 23 = .ok (.iload 4, 2) := dk_21 4 (dk_at dksX7_rests_1 0 rfl rfl)
theorem dX7_rests_25 : decode cX7_rests 25 = .ok (.iconst 1, 1) := dk_4 (dk_at dksX7_rests_1 2 rfl rfl)
theorem dX7_rests_26 : decode cX7_rests 26 = .ok (.iand, 1) := dk_126 (dk_at dksX7_rests_1 3 rfl rfl)
theorem dX7_rests_27 : decode cX7_rests 27 = .ok (.istore 5, 2) := dk_54 5 (dk_at dksX7_rests_1 4 rfl rfl)
theorem dX7_rests_29 : decode cX7_rests 29 = .ok (.iload 4, 2) := dk_21 4 (dk_at dksX7_rests_1 6 rfl rfl)
theorem dX7_rests_31 : decode cX7_rests 31 = .ok (.iconst 1, 1) := dk_4 (dk_at dksX7_rests_1 8 rfl rfl)
theorem dX7_rests_32 : decode cX7_rests 32 = .ok (.ishr, 1) := dk_122 (dk_at dksX7_rests_1 9 rfl rfl)
theorem dX7_rests_33 : decode cX7_rests 33 = .ok (.istore 6, 2) := dk_54 6 (dk_at dksX7_rests_1 10 rfl rfl)
theorem dX7_rests_35 : decode cX7_rests 35 = .ok (.aload_n 0, 1) := dk_42 (dk_at dksX7_rests_1 12 rfl rfl)
theorem dX7_rests_36 : decode cX7_rests 36 = .ok (.iload_n 1, 1) := dk_27 (dk_at dksX7_rests_1 13 rfl rfl)
theorem dX7_rests_37 : decode cX7_rests 37 = .ok (.iload_n 2, 1) := dk_28 (dk_at dksX7_rests_1 14 rfl rfl)
theorem dX7_rests_38 : decode cX7_rests 38 = .ok (.iload 5, 2) := dk_21 5 (dk_at dksX7_rests_1 15 rfl rfl)
theorem dX7_rests_40 : decode cX7_rests 40 = .ok (.iload 6, 2) := dk_21 6 (dk_at dksX7_rests_1 17 rfl rfl)
theorem dX7_rests_42 : decode cX7_rests 42 = .ok (.iconst 0, 1) := dk_3 (dk_at dksX7_rests_1 19 rfl rfl)
theorem dX7_rests_43 : decode cX7_rests 43 = .ok (.invokevirtual 477, 3) := dk_182 1 221 (dk_at dksX7_rests_1 20 rfl rfl)
theorem dX7_rests_46 : decode cX7_rests 46 = .ok (.aload_n 0, 1) := dk_42 (dk_at dksX7_rests_1 23 rfl rfl)
theorem dX7_rests_47 : decode cX7_rests 47 = .ok (.iload_n 1, 1) := dk_27 (dk_at dksX7_rests_2 0 rfl rfl)
theorem dX7_rests_48 : decode cX7_rests 48 = .ok (.iload_n 2, 1) := dk_28 (dk_at dksX7_rests_2 1 rfl rfl)
theorem dX7_rests_49 : decode cX7_rests 49 = .ok (.iconst 1, 1) := dk_4 (dk_at dksX7_rests_2 2 rfl rfl)
theorem dX7_rests_50 : decode cX7_rests 50 = .ok (.iload 5, 2) := dk_21 5 (dk_at dksX7_rests_2 3 rfl rfl)
theorem dX7_rests_52 : decode cX7_rests 52 = .ok (.isub, 1) := dk_100 (dk_at dksX7_rests_2 5 rfl rfl)
theorem dX7_rests_53 : decode cX7_rests 53 = .ok (.iload 6, 2) := dk_21 6 (dk_at dksX7_rests_2 6 rfl rfl)
theorem dX7_rests_55 : decode cX7_rests 55 = .ok (.iconst 0, 1) := dk_3 (dk_at dksX7_rests_2 8 rfl rfl)
theorem dX7_rests_56 : decode cX7_rests 56 = .ok (.invokevirtual 477, 3) := dk_182 1 221 (dk_at dksX7_rests_2 9 rfl rfl)
theorem dX7_rests_59 : decode cX7_rests 59 = .ok (.if_icmp .lt 34, 3) := dk_161 0 34 (dk_at dksX7_rests_2 12 rfl rfl)
theorem dX7_rests_62 : decode cX7_rests 62 = .ok (.aload_n 0, 1) := dk_42 (dk_at dksX7_rests_2 15 rfl rfl)
theorem dX7_rests_63 : decode cX7_rests 63 = .ok (.iload_n 1, 1) := dk_27 (dk_at dksX7_rests_2 16 rfl rfl)
theorem dX7_rests_64 : decode cX7_rests 64 = .ok (.iload_n 2, 1) := dk_28 (dk_at dksX7_rests_2 17 rfl rfl)
theorem dX7_rests_65 : decode cX7_rests 65 = .ok (.iload 5, 2) := dk_21 5 (dk_at dksX7_rests_2 18 rfl rfl)
theorem dX7_rests_67 : decode cX7_rests 67 = .ok (.iload 6, 2) := dk_21 6 (dk_at dksX7_rests_2 20 rfl rfl)
theorem dX7_rests_69 : decode cX7_rests 69 = .ok (.iconst 1, 1) := dk_4 (dk_at dksX7_rests_2 22 rfl rfl)
theorem dX7_rests_70 : decode cX7_rests 70 = .ok (.invokevirtual 477, 3) := dk_182 1 221 (dk_at dksX7_rests_3 0 rfl rfl)
theorem dX7_rests_73 : decode cX7_rests 73 = .ok (.aload_n 0, 1) := dk_42 (dk_at dksX7_rests_3 3 rfl rfl)
theorem dX7_rests_74 : decode cX7_rests 74 = .ok (.iload_n 1, 1) := dk_27 (dk_at dksX7_rests_3 4 rfl rfl)
theorem dX7_rests_75 : decode cX7_rests 75 = .ok (.iload_n 2, 1) := dk_28 (dk_at dksX7_rests_3 5 rfl rfl)
theorem dX7_rests_76 : decode cX7_rests 76 = .ok (.iload 5, 2) := dk_21 5 (dk_at dksX7_rests_3 6 rfl rfl)
theorem dX7_rests_78 : decode cX7_rests 78 = .ok (.iconst 1, 1) := dk_4 (dk_at dksX7_rests_3 8 rfl rfl)
theorem dX7_rests_79 : decode cX7_rests 79 = .ok (.iload 6, 2) := dk_21 6 (dk_at dksX7_rests_3 9 rfl rfl)
theorem dX7_rests_81 : decode cX7_rests 81 = .ok (.isub, 1) := dk_100 (dk_at dksX7_rests_3 11 rfl rfl)
theorem dX7_rests_82 : decode cX7_rests 82 = .ok (.iconst 1, 1) := dk_4 (dk_at dksX7_rests_3 12 rfl rfl)
theorem dX7_rests_83 : decode cX7_rests 83 = .ok (.invokevirtual 477, 3) := dk_182 1 221 (dk_at dksX7_rests_3 13 rfl rfl)
theorem dX7_rests_86 : decode cX7_rests 86 = .ok (.if_icmp .lt 7, 3) := dk_161 0 7 (dk_at dksX7_rests_3 16 rfl rfl)
theorem dX7_rests_89 : decode cX7_rests 89 = .ok (.iconst 1, 1) := dk_4 (dk_at dksX7_rests_3 19 rfl rfl)
theorem dX7_rests_90 : decode cX7_rests 90 = .ok (.goto 4, 3) := dk_167 0 4 (dk_at dksX7_rests_3 20 rfl rfl)
theorem dX7_rests_93 : decode cX7_rests 93 = .ok (.iconst 0, 1) := dk_3 (dk_at dksX7_rests_3 23 rfl rfl)
theorem dX7_rests_94 : decode cX7_rests 94 = .ok (.istore 7, 2) := dk_54 7 (dk_at dksX7_rests_4 0 rfl rfl)
theorem dX7_rests_96 : decode cX7_rests 96 = .ok (.iload_n 3, 1) := dk_29 (dk_at dksX7_rests_4 2 rfl rfl)
theorem dX7_rests_97 : decode cX7_rests 97 = .ok (.iload 7, 2) := dk_21 7 (dk_at dksX7_rests_4 3 rfl rfl)
theorem dX7_rests_99 : decode cX7_rests 99 = .ok (.ifCond .eq 10, 3) := dk_153 0 10 (dk_at dksX7_rests_4 5 rfl rfl)
theorem dX7_rests_102 : decode cX7_rests 102 = .ok (.iconst 1, 1) := dk_4 (dk_at dksX7_rests_4 8 rfl rfl)
theorem dX7_rests_103 : decode cX7_rests 103 = .ok (.iload 4, 2) := dk_21 4 (dk_at dksX7_rests_4 9 rfl rfl)
theorem dX7_rests_105 : decode cX7_rests 105 = .ok (.ishl, 1) := dk_120 (dk_at dksX7_rests_4 11 rfl rfl)
theorem dX7_rests_106 : decode cX7_rests 106 = .ok (.goto 4, 3) := dk_167 0 4 (dk_at dksX7_rests_4 12 rfl rfl)
theorem dX7_rests_109 : decode cX7_rests 109 = .ok (.iconst 0, 1) := dk_3 (dk_at dksX7_rests_4 15 rfl rfl)
theorem dX7_rests_110 : decode cX7_rests 110 = .ok (.ior, 1) := dk_128 (dk_at dksX7_rests_4 16 rfl rfl)
theorem dX7_rests_111 : decode cX7_rests 111 = .ok (.istore_n 3, 1) := dk_62 (dk_at dksX7_rests_4 17 rfl rfl)
theorem dX7_rests_112 : decode cX7_rests 112 = .ok (.iinc 4 1, 3) := dk_132 4 1 (dk_at dksX7_rests_4 18 rfl rfl)
theorem dX7_rests_115 : decode cX7_rests 115 = .ok (.goto (-98), 3) := dk_167 255 158 (dk_at dksX7_rests_4 21 rfl rfl)
theorem dX7_rests_118 : decode cX7_rests 118 = .ok (.iload_n 3, 1) := dk_29 (dk_at dksX7_rests_5 0 rfl rfl)
theorem dX7_rests_119 : decode cX7_rests 119 = .ok (.ireturn, 1) := dk_172 (dk_at dksX7_rests_5 1 rfl rfl)
abbrev cX7_areTwo : ByteArray := prog_22_method_146_code
def yX7_areTwo : MethodName := ⟨RX7, "areTwo", "(II)Z"⟩
def dkwX7_areTwo_1 : List UInt8 := [167, 0, 4, 3, 172]
abbrev dktX7_areTwo_1 : List UInt8 := dkwX7_areTwo_1 ++ []
def dkwX7_areTwo_0 : List UInt8 := [42, 27, 182, 1, 11, 153, 0, 20, 42, 28, 182, 1, 11, 153, 0, 12, 27, 28, 159, 0, 7, 4]
abbrev dktX7_areTwo_0 : List UInt8 := dkwX7_areTwo_0 ++ dktX7_areTwo_1
theorem dksX7_areTwo_0 : cX7_areTwo.data.toList.drop 0 = dktX7_areTwo_0 := by decide +kernel
theorem dksX7_areTwo_1 : cX7_areTwo.data.toList.drop 22 = dktX7_areTwo_1 := dk_seg dksX7_areTwo_0 22 rfl rfl
theorem dX7_areTwo_0 : decode cX7_areTwo 0 = .ok (.aload_n 0, 1) := dk_42 (dk_at dksX7_areTwo_0 0 rfl rfl)
theorem dX7_areTwo_1 : decode cX7_areTwo 1 = .ok (.iload_n 1, 1) := dk_27 (dk_at dksX7_areTwo_0 1 rfl rfl)
theorem dX7_areTwo_2 : decode cX7_areTwo 2 = .ok (.invokevirtual 267, 3) := dk_182 1 11 (dk_at dksX7_areTwo_0 2 rfl rfl)
theorem dX7_areTwo_5 : decode cX7_areTwo 5 = .ok (.ifCond .eq 20, 3) := dk_153 0 20 (dk_at dksX7_areTwo_0 5 rfl rfl)
theorem dX7_areTwo_8 : decode cX7_areTwo 8 = .ok (.aload_n 0, 1) := dk_42 (dk_at dksX7_areTwo_0 8 rfl rfl)
theorem dX7_areTwo_9 : decode cX7_areTwo 9 = .ok (.iload_n 2, 1) := dk_28 (dk_at dksX7_areTwo_0 9 rfl rfl)
theorem dX7_areTwo_10 : decode cX7_areTwo 10 = .ok (.invokevirtual 267, 3) := dk_182 1 11 (dk_at dksX7_areTwo_0 10 rfl rfl)
theorem dX7_areTwo_13 : decode cX7_areTwo 13 = .ok (.ifCond .eq 12, 3) := dk_153 0 12 (dk_at dksX7_areTwo_0 13 rfl rfl)
theorem dX7_areTwo_16 : decode cX7_areTwo 16 = .ok (.iload_n 1, 1) := dk_27 (dk_at dksX7_areTwo_0 16 rfl rfl)
theorem dX7_areTwo_17 : decode cX7_areTwo 17 = .ok (.iload_n 2, 1) := dk_28 (dk_at dksX7_areTwo_0 17 rfl rfl)
theorem dX7_areTwo_18 : decode cX7_areTwo 18 = .ok (.if_icmp .eq 7, 3) := dk_159 0 7 (dk_at dksX7_areTwo_0 18 rfl rfl)
theorem dX7_areTwo_21 : decode cX7_areTwo 21 = .ok (.iconst 1, 1) := dk_4 (dk_at dksX7_areTwo_0 21 rfl rfl)
theorem dX7_areTwo_22 : decode cX7_areTwo 22 = .ok (.goto 4, 3) := dk_167 0 4 (dk_at dksX7_areTwo_1 0 rfl rfl)
theorem dX7_areTwo_25 : decode cX7_areTwo 25 = .ok (.iconst 0, 1) := dk_3 (dk_at dksX7_areTwo_1 3 rfl rfl)
theorem dX7_areTwo_26 : decode cX7_areTwo 26 = .ok (.ireturn, 1) := dk_172 (dk_at dksX7_areTwo_1 4 rfl rfl)
abbrev cX7_getsBy : ByteArray := prog_22_method_145_code
def yX7_getsBy : MethodName := ⟨RX7, "getsBy", "(IIIII)I"⟩
def dkwX7_getsBy_2 : List UInt8 := [154, 0, 7, 29, 167, 0, 5, 21, 4, 104, 100, 172]
abbrev dktX7_getsBy_2 : List UInt8 := dkwX7_getsBy_2 ++ []
def dkwX7_getsBy_1 : List UInt8 := [21, 5, 154, 0, 7, 27, 167, 0, 4, 28, 182, 1, 72, 42, 4, 182, 1, 137, 100, 5, 21, 5]
abbrev dktX7_getsBy_1 : List UInt8 := dkwX7_getsBy_1 ++ dktX7_getsBy_2
def dkwX7_getsBy_0 : List UInt8 := [42, 182, 1, 62, 87, 42, 89, 180, 1, 23, 29, 27, 120, 21, 4, 28, 120, 128, 128, 181, 1, 23, 42]
abbrev dktX7_getsBy_0 : List UInt8 := dkwX7_getsBy_0 ++ dktX7_getsBy_1
theorem dksX7_getsBy_0 : cX7_getsBy.data.toList.drop 0 = dktX7_getsBy_0 := by decide +kernel
theorem dksX7_getsBy_1 : cX7_getsBy.data.toList.drop 23 = dktX7_getsBy_1 := dk_seg dksX7_getsBy_0 23 rfl rfl
theorem dksX7_getsBy_2 : cX7_getsBy.data.toList.drop 45 = dktX7_getsBy_2 := dk_seg dksX7_getsBy_1 22 rfl rfl
theorem dX7_getsBy_0 : decode cX7_getsBy 0 = .ok (.aload_n 0, 1) := dk_42 (dk_at dksX7_getsBy_0 0 rfl rfl)
theorem dX7_getsBy_1 : decode cX7_getsBy 1 = .ok (.invokevirtual 318, 3) := dk_182 1 62 (dk_at dksX7_getsBy_0 1 rfl rfl)
theorem dX7_getsBy_4 : decode cX7_getsBy 4 = .ok (.pop, 1) := dk_87 (dk_at dksX7_getsBy_0 4 rfl rfl)
theorem dX7_getsBy_5 : decode cX7_getsBy 5 = .ok (.aload_n 0, 1) := dk_42 (dk_at dksX7_getsBy_0 5 rfl rfl)
theorem dX7_getsBy_6 : decode cX7_getsBy 6 = .ok (.dup, 1) := dk_89 (dk_at dksX7_getsBy_0 6 rfl rfl)
theorem dX7_getsBy_7 : decode cX7_getsBy 7 = .ok (.getfield 279, 3) := dk_180 1 23 (dk_at dksX7_getsBy_0 7 rfl rfl)
theorem dX7_getsBy_10 : decode cX7_getsBy 10 = .ok (.iload_n 3, 1) := dk_29 (dk_at dksX7_getsBy_0 10 rfl rfl)
theorem dX7_getsBy_11 : decode cX7_getsBy 11 = .ok (.iload_n 1, 1) := dk_27 (dk_at dksX7_getsBy_0 11 rfl rfl)
theorem dX7_getsBy_12 : decode cX7_getsBy 12 = .ok (.ishl, 1) := dk_120 (dk_at dksX7_getsBy_0 12 rfl rfl)
theorem dX7_getsBy_13 : decode cX7_getsBy 13 = .ok (.iload 4, 2) := dk_21 4 (dk_at dksX7_getsBy_0 13 rfl rfl)
theorem dX7_getsBy_15 : decode cX7_getsBy 15 = .ok (.iload_n 2, 1) := dk_28 (dk_at dksX7_getsBy_0 15 rfl rfl)
theorem dX7_getsBy_16 : decode cX7_getsBy 16 = .ok (.ishl, 1) := dk_120 (dk_at dksX7_getsBy_0 16 rfl rfl)
theorem dX7_getsBy_17 : decode cX7_getsBy 17 = .ok (.ior, 1) := dk_128 (dk_at dksX7_getsBy_0 17 rfl rfl)
theorem dX7_getsBy_18 : decode cX7_getsBy 18 = .ok (.ior, 1) := dk_128 (dk_at dksX7_getsBy_0 18 rfl rfl)
theorem dX7_getsBy_19 : decode cX7_getsBy 19 = .ok (.putfield 279, 3) := dk_181 1 23 (dk_at dksX7_getsBy_0 19 rfl rfl)
theorem dX7_getsBy_22 : decode cX7_getsBy 22 = .ok (.aload_n 0, 1) := dk_42 (dk_at dksX7_getsBy_0 22 rfl rfl)
theorem dX7_getsBy_23 : decode cX7_getsBy 23 = .ok (.iload 5, 2) := dk_21 5 (dk_at dksX7_getsBy_1 0 rfl rfl)
theorem dX7_getsBy_25 : decode cX7_getsBy 25 = .ok (.ifCond .ne 7, 3) := dk_154 0 7 (dk_at dksX7_getsBy_1 2 rfl rfl)
theorem dX7_getsBy_28 : decode cX7_getsBy 28 = .ok (.iload_n 1, 1) := dk_27 (dk_at dksX7_getsBy_1 5 rfl rfl)
theorem dX7_getsBy_29 : decode cX7_getsBy 29 = .ok (.goto 4, 3) := dk_167 0 4 (dk_at dksX7_getsBy_1 6 rfl rfl)
theorem dX7_getsBy_32 : decode cX7_getsBy 32 = .ok (.iload_n 2, 1) := dk_28 (dk_at dksX7_getsBy_1 9 rfl rfl)
theorem dX7_getsBy_33 : decode cX7_getsBy 33 = .ok (.invokevirtual 328, 3) := dk_182 1 72 (dk_at dksX7_getsBy_1 10 rfl rfl)
theorem dX7_getsBy_36 : decode cX7_getsBy 36 = .ok (.aload_n 0, 1) := dk_42 (dk_at dksX7_getsBy_1 13 rfl rfl)
theorem dX7_getsBy_37 : decode cX7_getsBy 37 = .ok (.iconst 1, 1) := dk_4 (dk_at dksX7_getsBy_1 14 rfl rfl)
theorem dX7_getsBy_38 : decode cX7_getsBy 38 = .ok (.invokevirtual 393, 3) := dk_182 1 137 (dk_at dksX7_getsBy_1 15 rfl rfl)
theorem dX7_getsBy_41 : decode cX7_getsBy 41 = .ok (.isub, 1) := dk_100 (dk_at dksX7_getsBy_1 18 rfl rfl)
theorem dX7_getsBy_42 : decode cX7_getsBy 42 = .ok (.iconst 2, 1) := dk_5 (dk_at dksX7_getsBy_1 19 rfl rfl)
theorem dX7_getsBy_43 : decode cX7_getsBy 43 = .ok (.iload 5, 2) := dk_21 5 (dk_at dksX7_getsBy_1 20 rfl rfl)
theorem dX7_getsBy_45 : decode cX7_getsBy 45 = .ok (.ifCond .ne 7, 3) := dk_154 0 7 (dk_at dksX7_getsBy_2 0 rfl rfl)
theorem dX7_getsBy_48 : decode cX7_getsBy 48 = .ok (.iload_n 3, 1) := dk_29 (dk_at dksX7_getsBy_2 3 rfl rfl)
theorem dX7_getsBy_49 : decode cX7_getsBy 49 = .ok (.goto 5, 3) := dk_167 0 5 (dk_at dksX7_getsBy_2 4 rfl rfl)
theorem dX7_getsBy_52 : decode cX7_getsBy 52 = .ok (.iload 4, 2) := dk_21 4 (dk_at dksX7_getsBy_2 7 rfl rfl)
theorem dX7_getsBy_54 : decode cX7_getsBy 54 = .ok (.imul, 1) := dk_104 (dk_at dksX7_getsBy_2 9 rfl rfl)
theorem dX7_getsBy_55 : decode cX7_getsBy 55 = .ok (.isub, 1) := dk_100 (dk_at dksX7_getsBy_2 10 rfl rfl)
theorem dX7_getsBy_56 : decode cX7_getsBy 56 = .ok (.ireturn, 1) := dk_172 (dk_at dksX7_getsBy_2 11 rfl rfl)
abbrev cX7_gets : ByteArray := prog_22_method_148_code
def yX7_gets : MethodName := ⟨RX7, "gets", "(IIII)I"⟩
def dkwX7_gets_1 : List UInt8 := [184, 0, 76, 153, 0, 16, 42, 27, 28, 29, 21, 4, 3, 182, 1, 221, 167, 0, 6, 19, 1, 210, 172]
abbrev dktX7_gets_1 : List UInt8 := dkwX7_gets_1 ++ []
def dkwX7_gets_0 : List UInt8 := [42, 27, 28, 182, 1, 218, 153, 0, 37, 29, 133, 9, 10, 184, 0, 76, 153, 0, 27, 21, 4, 133, 9, 10]
abbrev dktX7_gets_0 : List UInt8 := dkwX7_gets_0 ++ dktX7_gets_1
theorem dksX7_gets_0 : cX7_gets.data.toList.drop 0 = dktX7_gets_0 := by decide +kernel
theorem dksX7_gets_1 : cX7_gets.data.toList.drop 24 = dktX7_gets_1 := dk_seg dksX7_gets_0 24 rfl rfl
theorem dX7_gets_0 : decode cX7_gets 0 = .ok (.aload_n 0, 1) := dk_42 (dk_at dksX7_gets_0 0 rfl rfl)
theorem dX7_gets_1 : decode cX7_gets 1 = .ok (.iload_n 1, 1) := dk_27 (dk_at dksX7_gets_0 1 rfl rfl)
theorem dX7_gets_2 : decode cX7_gets 2 = .ok (.iload_n 2, 1) := dk_28 (dk_at dksX7_gets_0 2 rfl rfl)
theorem dX7_gets_3 : decode cX7_gets 3 = .ok (.invokevirtual 474, 3) := dk_182 1 218 (dk_at dksX7_gets_0 3 rfl rfl)
theorem dX7_gets_6 : decode cX7_gets 6 = .ok (.ifCond .eq 37, 3) := dk_153 0 37 (dk_at dksX7_gets_0 6 rfl rfl)
theorem dX7_gets_9 : decode cX7_gets 9 = .ok (.iload_n 3, 1) := dk_29 (dk_at dksX7_gets_0 9 rfl rfl)
theorem dX7_gets_10 : decode cX7_gets 10 = .ok (.i2l, 1) := dk_133 (dk_at dksX7_gets_0 10 rfl rfl)
theorem dX7_gets_11 : decode cX7_gets 11 = .ok (.lconst 0, 1) := dk_9 (dk_at dksX7_gets_0 11 rfl rfl)
theorem dX7_gets_12 : decode cX7_gets 12 = .ok (.lconst 1, 1) := dk_10 (dk_at dksX7_gets_0 12 rfl rfl)
theorem dX7_gets_13 : decode cX7_gets 13 = .ok (.invokestatic 76, 3) := dk_184 0 76 (dk_at dksX7_gets_0 13 rfl rfl)
theorem dX7_gets_16 : decode cX7_gets 16 = .ok (.ifCond .eq 27, 3) := dk_153 0 27 (dk_at dksX7_gets_0 16 rfl rfl)
theorem dX7_gets_19 : decode cX7_gets 19 = .ok (.iload 4, 2) := dk_21 4 (dk_at dksX7_gets_0 19 rfl rfl)
theorem dX7_gets_21 : decode cX7_gets 21 = .ok (.i2l, 1) := dk_133 (dk_at dksX7_gets_0 21 rfl rfl)
theorem dX7_gets_22 : decode cX7_gets 22 = .ok (.lconst 0, 1) := dk_9 (dk_at dksX7_gets_0 22 rfl rfl)
theorem dX7_gets_23 : decode cX7_gets 23 = .ok (.lconst 1, 1) := dk_10 (dk_at dksX7_gets_0 23 rfl rfl)
theorem dX7_gets_24 : decode cX7_gets 24 = .ok (.invokestatic 76, 3) := dk_184 0 76 (dk_at dksX7_gets_1 0 rfl rfl)
theorem dX7_gets_27 : decode cX7_gets 27 = .ok (.ifCond .eq 16, 3) := dk_153 0 16 (dk_at dksX7_gets_1 3 rfl rfl)
theorem dX7_gets_30 : decode cX7_gets 30 = .ok (.aload_n 0, 1) := dk_42 (dk_at dksX7_gets_1 6 rfl rfl)
theorem dX7_gets_31 : decode cX7_gets 31 = .ok (.iload_n 1, 1) := dk_27 (dk_at dksX7_gets_1 7 rfl rfl)
theorem dX7_gets_32 : decode cX7_gets 32 = .ok (.iload_n 2, 1) := dk_28 (dk_at dksX7_gets_1 8 rfl rfl)
theorem dX7_gets_33 : decode cX7_gets 33 = .ok (.iload_n 3, 1) := dk_29 (dk_at dksX7_gets_1 9 rfl rfl)
theorem dX7_gets_34 : decode cX7_gets 34 = .ok (.iload 4, 2) := dk_21 4 (dk_at dksX7_gets_1 10 rfl rfl)
theorem dX7_gets_36 : decode cX7_gets 36 = .ok (.iconst 0, 1) := dk_3 (dk_at dksX7_gets_1 12 rfl rfl)
theorem dX7_gets_37 : decode cX7_gets 37 = .ok (.invokevirtual 477, 3) := dk_182 1 221 (dk_at dksX7_gets_1 13 rfl rfl)
theorem dX7_gets_40 : decode cX7_gets 40 = .ok (.goto 6, 3) := dk_167 0 6 (dk_at dksX7_gets_1 16 rfl rfl)
theorem dX7_gets_43 : decode cX7_gets 43 = .ok (.ldc_w 466, 3) := dk_19 1 210 (dk_at dksX7_gets_1 19 rfl rfl)
theorem dX7_gets_46 : decode cX7_gets 46 = .ok (.ireturn, 1) := dk_172 (dk_at dksX7_gets_1 22 rfl rfl)
abbrev cX7_chance : ByteArray := prog_22_method_151_code
def yX7_chance : MethodName := ⟨RX7, "chance", "(I)J"⟩
def dkwX7_chance_1 : List UInt8 := [20, 1, 241, 173]
abbrev dktX7_chance_1 : List UInt8 := dkwX7_chance_1 ++ []
def dkwX7_chance_0 : List UInt8 := [42, 27, 182, 1, 238, 153, 0, 18, 42, 180, 1, 229, 42, 180, 1, 225, 27, 184, 1, 214, 167, 0, 6]
abbrev dktX7_chance_0 : List UInt8 := dkwX7_chance_0 ++ dktX7_chance_1
theorem dksX7_chance_0 : cX7_chance.data.toList.drop 0 = dktX7_chance_0 := by decide +kernel
theorem dksX7_chance_1 : cX7_chance.data.toList.drop 23 = dktX7_chance_1 := dk_seg dksX7_chance_0 23 rfl rfl
theorem dX7_chance_0 : decode cX7_chance 0 = .ok (.aload_n 0, 1) := dk_42 (dk_at dksX7_chance_0 0 rfl rfl)
theorem dX7_chance_1 : decode cX7_chance 1 = .ok (.iload_n 1, 1) := dk_27 (dk_at dksX7_chance_0 1 rfl rfl)
theorem dX7_chance_2 : decode cX7_chance 2 = .ok (.invokevirtual 494, 3) := dk_182 1 238 (dk_at dksX7_chance_0 2 rfl rfl)
theorem dX7_chance_5 : decode cX7_chance 5 = .ok (.ifCond .eq 18, 3) := dk_153 0 18 (dk_at dksX7_chance_0 5 rfl rfl)
theorem dX7_chance_8 : decode cX7_chance 8 = .ok (.aload_n 0, 1) := dk_42 (dk_at dksX7_chance_0 8 rfl rfl)
theorem dX7_chance_9 : decode cX7_chance 9 = .ok (.getfield 485, 3) := dk_180 1 229 (dk_at dksX7_chance_0 9 rfl rfl)
theorem dX7_chance_12 : decode cX7_chance 12 = .ok (.aload_n 0, 1) := dk_42 (dk_at dksX7_chance_0 12 rfl rfl)
theorem dX7_chance_13 : decode cX7_chance 13 = .ok (.getfield 481, 3) := dk_180 1 225 (dk_at dksX7_chance_0 13 rfl rfl)
theorem dX7_chance_16 : decode cX7_chance 16 = .ok (.iload_n 1, 1) := dk_27 (dk_at dksX7_chance_0 16 rfl rfl)
theorem dX7_chance_17 : decode cX7_chance 17 = .ok (.invokestatic 470, 3) := dk_184 1 214 (dk_at dksX7_chance_0 17 rfl rfl)
theorem dX7_chance_20 : decode cX7_chance 20 = .ok (.goto 6, 3) := dk_167 0 6 (dk_at dksX7_chance_0 20 rfl rfl)
theorem dX7_chance_23 : decode cX7_chance 23 = .ok (.ldc2_w 497, 3) := dk_20 1 241 (dk_at dksX7_chance_1 0 rfl rfl)
theorem dX7_chance_26 : decode cX7_chance 26 = .ok (.lreturn, 1) := dk_173 (dk_at dksX7_chance_1 3 rfl rfl)
abbrev cX7_asksChance : ByteArray := prog_22_method_150_code
def yX7_asksChance : MethodName := ⟨RX7, "asksChance", "(I)Z"⟩
def dkwX7_asksChance_1 : List UInt8 := [172]
abbrev dktX7_asksChance_1 : List UInt8 := dkwX7_asksChance_1 ++ []
def dkwX7_asksChance_0 : List UInt8 := [42, 182, 0, 92, 153, 0, 13, 27, 133, 9, 10, 184, 0, 76, 154, 0, 5, 3, 172, 42, 182, 1, 235, 4]
abbrev dktX7_asksChance_0 : List UInt8 := dkwX7_asksChance_0 ++ dktX7_asksChance_1
theorem dksX7_asksChance_0 : cX7_asksChance.data.toList.drop 0 = dktX7_asksChance_0 := by decide +kernel
theorem dksX7_asksChance_1 : cX7_asksChance.data.toList.drop 24 = dktX7_asksChance_1 := dk_seg dksX7_asksChance_0 24 rfl rfl
theorem dX7_asksChance_0 : decode cX7_asksChance 0 = .ok (.aload_n 0, 1) := dk_42 (dk_at dksX7_asksChance_0 0 rfl rfl)
theorem dX7_asksChance_1 : decode cX7_asksChance 1 = .ok (.invokevirtual 92, 3) := dk_182 0 92 (dk_at dksX7_asksChance_0 1 rfl rfl)
theorem dX7_asksChance_4 : decode cX7_asksChance 4 = .ok (.ifCond .eq 13, 3) := dk_153 0 13 (dk_at dksX7_asksChance_0 4 rfl rfl)
theorem dX7_asksChance_7 : decode cX7_asksChance 7 = .ok (.iload_n 1, 1) := dk_27 (dk_at dksX7_asksChance_0 7 rfl rfl)
theorem dX7_asksChance_8 : decode cX7_asksChance 8 = .ok (.i2l, 1) := dk_133 (dk_at dksX7_asksChance_0 8 rfl rfl)
theorem dX7_asksChance_9 : decode cX7_asksChance 9 = .ok (.lconst 0, 1) := dk_9 (dk_at dksX7_asksChance_0 9 rfl rfl)
theorem dX7_asksChance_10 : decode cX7_asksChance 10 = .ok (.lconst 1, 1) := dk_10 (dk_at dksX7_asksChance_0 10 rfl rfl)
theorem dX7_asksChance_11 : decode cX7_asksChance 11 = .ok (.invokestatic 76, 3) := dk_184 0 76 (dk_at dksX7_asksChance_0 11 rfl rfl)
theorem dX7_asksChance_14 : decode cX7_asksChance 14 = .ok (.ifCond .ne 5, 3) := dk_154 0 5 (dk_at dksX7_asksChance_0 14 rfl rfl)
theorem dX7_asksChance_17 : decode cX7_asksChance 17 = .ok (.iconst 0, 1) := dk_3 (dk_at dksX7_asksChance_0 17 rfl rfl)
theorem dX7_asksChance_18 : decode cX7_asksChance 18 = .ok (.ireturn, 1) := dk_172 (dk_at dksX7_asksChance_0 18 rfl rfl)
theorem dX7_asksChance_19 : decode cX7_asksChance 19 = .ok (.aload_n 0, 1) := dk_42 (dk_at dksX7_asksChance_0 19 rfl rfl)
theorem dX7_asksChance_20 : decode cX7_asksChance 20 = .ok (.invokevirtual 491, 3) := dk_182 1 235 (dk_at dksX7_asksChance_0 20 rfl rfl)
theorem dX7_asksChance_23 : decode cX7_asksChance 23 = .ok (.iconst 1, 1) := dk_4 (dk_at dksX7_asksChance_0 23 rfl rfl)
theorem dX7_asksChance_24 : decode cX7_asksChance 24 = .ok (.ireturn, 1) := dk_172 (dk_at dksX7_asksChance_1 0 rfl rfl)
abbrev cX7_layChance : ByteArray := prog_22_method_149_code
def yX7_layChance : MethodName := ⟨RX7, "layChance", "()V"⟩
def dkwX7_layChance_6 : List UInt8 := [97, 181, 1, 232, 132, 2, 1, 167, 255, 128, 177]
abbrev dktX7_layChance_6 : List UInt8 := dkwX7_layChance_6 ++ []
def dkwX7_layChance_5 : List UInt8 := [154, 0, 7, 33, 167, 0, 4, 9, 97, 181, 1, 229, 42, 89, 180, 1, 232, 33, 42, 182, 1, 65, 133, 105]
abbrev dktX7_layChance_5 : List UInt8 := dkwX7_layChance_5 ++ dktX7_layChance_6
def dkwX7_layChance_4 : List UInt8 := [126, 182, 1, 199, 54, 5, 42, 89, 180, 1, 225, 33, 97, 181, 1, 225, 42, 89, 180, 1, 229, 21, 5]
abbrev dktX7_layChance_4 : List UInt8 := dkwX7_layChance_4 ++ dktX7_layChance_5
def dkwX7_layChance_3 : List UInt8 := [66, 132, 5, 1, 167, 255, 214, 33, 9, 148, 154, 0, 6, 167, 0, 62, 42, 42, 182, 1, 146, 28, 2, 130]
abbrev dktX7_layChance_3 : List UInt8 := dkwX7_layChance_3 ++ dktX7_layChance_4
def dkwX7_layChance_2 : List UInt8 := [160, 0, 13, 42, 180, 0, 9, 5, 46, 133, 167, 0, 13, 16, 10, 42, 180, 0, 9, 5, 46, 100, 133, 105]
abbrev dktX7_layChance_2 : List UInt8 := dkwX7_layChance_2 ++ dktX7_layChance_3
def dkwX7_layChance_1 : List UInt8 := [27, 120, 162, 0, 127, 10, 66, 3, 54, 5, 21, 5, 27, 162, 0, 42, 33, 28, 21, 5, 184, 1, 32, 4]
abbrev dktX7_layChance_1 : List UInt8 := dkwX7_layChance_1 ++ dktX7_layChance_2
def dkwX7_layChance_0 : List UInt8 := [42, 9, 181, 1, 225, 42, 9, 181, 1, 229, 42, 9, 181, 1, 232, 42, 182, 0, 80, 60, 3, 61, 28, 4]
abbrev dktX7_layChance_0 : List UInt8 := dkwX7_layChance_0 ++ dktX7_layChance_1
theorem dksX7_layChance_0 : cX7_layChance.data.toList.drop 0 = dktX7_layChance_0 := by decide +kernel
theorem dksX7_layChance_1 : cX7_layChance.data.toList.drop 24 = dktX7_layChance_1 := dk_seg dksX7_layChance_0 24 rfl rfl
theorem dksX7_layChance_2 : cX7_layChance.data.toList.drop 48 = dktX7_layChance_2 := dk_seg dksX7_layChance_1 24 rfl rfl
theorem dksX7_layChance_3 : cX7_layChance.data.toList.drop 72 = dktX7_layChance_3 := dk_seg dksX7_layChance_2 24 rfl rfl
theorem dksX7_layChance_4 : cX7_layChance.data.toList.drop 96 = dktX7_layChance_4 := dk_seg dksX7_layChance_3 24 rfl rfl
theorem dksX7_layChance_5 : cX7_layChance.data.toList.drop 119 = dktX7_layChance_5 := dk_seg dksX7_layChance_4 23 rfl rfl
theorem dksX7_layChance_6 : cX7_layChance.data.toList.drop 143 = dktX7_layChance_6 := dk_seg dksX7_layChance_5 24 rfl rfl
theorem dX7_layChance_0 : decode cX7_layChance 0 = .ok (.aload_n 0, 1) := dk_42 (dk_at dksX7_layChance_0 0 rfl rfl)
theorem dX7_layChance_1 : decode cX7_layChance 1 = .ok (.lconst 0, 1) := dk_9 (dk_at dksX7_layChance_0 1 rfl rfl)
theorem dX7_layChance_2 : decode cX7_layChance 2 = .ok (.putfield 481, 3) := dk_181 1 225 (dk_at dksX7_layChance_0 2 rfl rfl)
theorem dX7_layChance_5 : decode cX7_layChance 5 = .ok (.aload_n 0, 1) := dk_42 (dk_at dksX7_layChance_0 5 rfl rfl)
theorem dX7_layChance_6 : decode cX7_layChance 6 = .ok (.lconst 0, 1) := dk_9 (dk_at dksX7_layChance_0 6 rfl rfl)
theorem dX7_layChance_7 : decode cX7_layChance 7 = .ok (.putfield 485, 3) := dk_181 1 229 (dk_at dksX7_layChance_0 7 rfl rfl)
theorem dX7_layChance_10 : decode cX7_layChance 10 = .ok (.aload_n 0, 1) := dk_42 (dk_at dksX7_layChance_0 10 rfl rfl)
theorem dX7_layChance_11 : decode cX7_layChance 11 = .ok (.lconst 0, 1) := dk_9 (dk_at dksX7_layChance_0 11 rfl rfl)
theorem dX7_layChance_12 : decode cX7_layChance 12 = .ok (.putfield 488, 3) := dk_181 1 232 (dk_at dksX7_layChance_0 12 rfl rfl)
theorem dX7_layChance_15 : decode cX7_layChance 15 = .ok (.aload_n 0, 1) := dk_42 (dk_at dksX7_layChance_0 15 rfl rfl)
theorem dX7_layChance_16 : decode cX7_layChance 16 = .ok (.invokevirtual 80, 3) := dk_182 0 80 (dk_at dksX7_layChance_0 16 rfl rfl)
theorem dX7_layChance_19 : decode cX7_layChance 19 = .ok (.istore_n 1, 1) := dk_60 (dk_at dksX7_layChance_0 19 rfl rfl)
theorem dX7_layChance_20 : decode cX7_layChance 20 = .ok (.iconst 0, 1) := dk_3 (dk_at dksX7_layChance_0 20 rfl rfl)
theorem dX7_layChance_21 : decode cX7_layChance 21 = .ok (.istore_n 2, 1) := dk_61 (dk_at dksX7_layChance_0 21 rfl rfl)
theorem dX7_layChance_22 : decode cX7_layChance 22 = .ok (.iload_n 2, 1) := dk_28 (dk_at dksX7_layChance_0 22 rfl rfl)
theorem dX7_layChance_23 : decode cX7_layChance 23 = .ok (.iconst 1, 1) := dk_4 (dk_at dksX7_layChance_0 23 rfl rfl)
theorem dX7_layChance_24 : decode cX7_layChance 24 = .ok (.iload_n 1, 1) := dk_27 (dk_at dksX7_layChance_1 0 rfl rfl)
theorem dX7_layChance_25 : decode cX7_layChance 25 = .ok (.ishl, 1) := dk_120 (dk_at dksX7_layChance_1 1 rfl rfl)
theorem dX7_layChance_26 : decode cX7_layChance 26 = .ok (.if_icmp .ge 127, 3) := dk_162 0 127 (dk_at dksX7_layChance_1 2 rfl rfl)
theorem dX7_layChance_29 : decode cX7_layChance 29 = .ok (.lconst 1, 1) := dk_10 (dk_at dksX7_layChance_1 5 rfl rfl)
theorem dX7_layChance_30 : decode cX7_layChance 30 = .ok (.lstore_n 3, 1) := dk_66 (dk_at dksX7_layChance_1 6 rfl rfl)
theorem dX7_layChance_31 : decode cX7_layChance 31 = .ok (.iconst 0, 1) := dk_3 (dk_at dksX7_layChance_1 7 rfl rfl)
theorem dX7_layChance_32 : decode cX7_layChance 32 = .ok (.istore 5, 2) := dk_54 5 (dk_at dksX7_layChance_1 8 rfl rfl)
theorem dX7_layChance_34 : decode cX7_layChance 34 = .ok (.iload 5, 2) := dk_21 5 (dk_at dksX7_layChance_1 10 rfl rfl)
theorem dX7_layChance_36 : decode cX7_layChance 36 = .ok (.iload_n 1, 1) := dk_27 (dk_at dksX7_layChance_1 12 rfl rfl)
theorem dX7_layChance_37 : decode cX7_layChance 37 = .ok (.if_icmp .ge 42, 3) := dk_162 0 42 (dk_at dksX7_layChance_1 13 rfl rfl)
theorem dX7_layChance_40 : decode cX7_layChance 40 = .ok (.lload_n 3, 1) := dk_33 (dk_at dksX7_layChance_1 16 rfl rfl)
theorem dX7_layChance_41 : decode cX7_layChance 41 = .ok (.iload_n 2, 1) := dk_28 (dk_at dksX7_layChance_1 17 rfl rfl)
theorem dX7_layChance_42 : decode cX7_layChance 42 = .ok (.iload 5, 2) := dk_21 5 (dk_at dksX7_layChance_1 18 rfl rfl)
theorem dX7_layChance_44 : decode cX7_layChance 44 = .ok (.invokestatic 288, 3) := dk_184 1 32 (dk_at dksX7_layChance_1 20 rfl rfl)
theorem dX7_layChance_47 : decode cX7_layChance 47 = .ok (.iconst 1, 1) := dk_4 (dk_at dksX7_layChance_1 23 rfl rfl)
theorem dX7_layChance_48 : decode cX7_layChance 48 = .ok (.if_icmp .ne 13, 3) := dk_160 0 13 (dk_at dksX7_layChance_2 0 rfl rfl)
theorem dX7_layChance_51 : decode cX7_layChance 51 = .ok (.aload_n 0, 1) := dk_42 (dk_at dksX7_layChance_2 3 rfl rfl)
theorem dX7_layChance_52 : decode cX7_layChance 52 = .ok (.getfield 9, 3) := dk_180 0 9 (dk_at dksX7_layChance_2 4 rfl rfl)
theorem dX7_layChance_55 : decode cX7_layChance 55 = .ok (.iconst 2, 1) := dk_5 (dk_at dksX7_layChance_2 7 rfl rfl)
theorem dX7_layChance_56 : decode cX7_layChance 56 = .ok (.iaload, 1) := dk_46 (dk_at dksX7_layChance_2 8 rfl rfl)
theorem dX7_layChance_57 : decode cX7_layChance 57 = .ok (.i2l, 1) := dk_133 (dk_at dksX7_layChance_2 9 rfl rfl)
theorem dX7_layChance_58 : decode cX7_layChance 58 = .ok (.goto 13, 3) := dk_167 0 13 (dk_at dksX7_layChance_2 10 rfl rfl)
theorem dX7_layChance_61 : decode cX7_layChance 61 = .ok (.bipush 10, 2) := dk_16 10 (dk_at dksX7_layChance_2 13 rfl rfl)
theorem dX7_layChance_63 : decode cX7_layChance 63 = .ok (.aload_n 0, 1) := dk_42 (dk_at dksX7_layChance_2 15 rfl rfl)
theorem dX7_layChance_64 : decode cX7_layChance 64 = .ok (.getfield 9, 3) := dk_180 0 9 (dk_at dksX7_layChance_2 16 rfl rfl)
theorem dX7_layChance_67 : decode cX7_layChance 67 = .ok (.iconst 2, 1) := dk_5 (dk_at dksX7_layChance_2 19 rfl rfl)
theorem dX7_layChance_68 : decode cX7_layChance 68 = .ok (.iaload, 1) := dk_46 (dk_at dksX7_layChance_2 20 rfl rfl)
theorem dX7_layChance_69 : decode cX7_layChance 69 = .ok (.isub, 1) := dk_100 (dk_at dksX7_layChance_2 21 rfl rfl)
theorem dX7_layChance_70 : decode cX7_layChance 70 = .ok (.i2l, 1) := dk_133 (dk_at dksX7_layChance_2 22 rfl rfl)
theorem dX7_layChance_71 : decode cX7_layChance 71 = .ok (.lmul, 1) := dk_105 (dk_at dksX7_layChance_2 23 rfl rfl)
theorem dX7_layChance_72 : decode cX7_layChance 72 = .ok (.lstore_n 3, 1) := dk_66 (dk_at dksX7_layChance_3 0 rfl rfl)
theorem dX7_layChance_73 : decode cX7_layChance 73 = .ok (.iinc 5 1, 3) := dk_132 5 1 (dk_at dksX7_layChance_3 1 rfl rfl)
theorem dX7_layChance_76 : decode cX7_layChance 76 = .ok (.goto (-42), 3) := dk_167 255 214 (dk_at dksX7_layChance_3 4 rfl rfl)
theorem dX7_layChance_79 : decode cX7_layChance 79 = .ok (.lload_n 3, 1) := dk_33 (dk_at dksX7_layChance_3 7 rfl rfl)
theorem dX7_layChance_80 : decode cX7_layChance 80 = .ok (.lconst 0, 1) := dk_9 (dk_at dksX7_layChance_3 8 rfl rfl)
theorem dX7_layChance_81 : decode cX7_layChance 81 = .ok (.lcmp, 1) := dk_148 (dk_at dksX7_layChance_3 9 rfl rfl)
theorem dX7_layChance_82 : decode cX7_layChance 82 = .ok (.ifCond .ne 6, 3) := dk_154 0 6 (dk_at dksX7_layChance_3 10 rfl rfl)
theorem dX7_layChance_85 : decode cX7_layChance 85 = .ok (.goto 62, 3) := dk_167 0 62 (dk_at dksX7_layChance_3 13 rfl rfl)
theorem dX7_layChance_88 : decode cX7_layChance 88 = .ok (.aload_n 0, 1) := dk_42 (dk_at dksX7_layChance_3 16 rfl rfl)
theorem dX7_layChance_89 : decode cX7_layChance 89 = .ok (.aload_n 0, 1) := dk_42 (dk_at dksX7_layChance_3 17 rfl rfl)
theorem dX7_layChance_90 : decode cX7_layChance 90 = .ok (.invokevirtual 402, 3) := dk_182 1 146 (dk_at dksX7_layChance_3 18 rfl rfl)
theorem dX7_layChance_93 : decode cX7_layChance 93 = .ok (.iload_n 2, 1) := dk_28 (dk_at dksX7_layChance_3 21 rfl rfl)
theorem dX7_layChance_94 : decode cX7_layChance 94 = .ok (.iconst (-1), 1) := dk_2 (dk_at dksX7_layChance_3 22 rfl rfl)
theorem dX7_layChance_95 : decode cX7_layChance 95 = .ok (.ixor, 1) := dk_130 (dk_at dksX7_layChance_3 23 rfl rfl)
theorem dX7_layChance_96 : decode cX7_layChance 96 = .ok (.iand, 1) := dk_126 (dk_at dksX7_layChance_4 0 rfl rfl)
theorem dX7_layChance_97 : decode cX7_layChance 97 = .ok (.invokevirtual 455, 3) := dk_182 1 199 (dk_at dksX7_layChance_4 1 rfl rfl)
theorem dX7_layChance_100 : decode cX7_layChance 100 = .ok (.istore 5, 2) := dk_54 5 (dk_at dksX7_layChance_4 4 rfl rfl)
theorem dX7_layChance_102 : decode cX7_layChance 102 = .ok (.aload_n 0, 1) := dk_42 (dk_at dksX7_layChance_4 6 rfl rfl)
theorem dX7_layChance_103 : decode cX7_layChance 103 = .ok (.dup, 1) := dk_89 (dk_at dksX7_layChance_4 7 rfl rfl)
theorem dX7_layChance_104 : decode cX7_layChance 104 = .ok (.getfield 481, 3) := dk_180 1 225 (dk_at dksX7_layChance_4 8 rfl rfl)
theorem dX7_layChance_107 : decode cX7_layChance 107 = .ok (.lload_n 3, 1) := dk_33 (dk_at dksX7_layChance_4 11 rfl rfl)
theorem dX7_layChance_108 : decode cX7_layChance 108 = .ok (.ladd, 1) := dk_97 (dk_at dksX7_layChance_4 12 rfl rfl)
theorem dX7_layChance_109 : decode cX7_layChance 109 = .ok (.putfield 481, 3) := dk_181 1 225 (dk_at dksX7_layChance_4 13 rfl rfl)
theorem dX7_layChance_112 : decode cX7_layChance 112 = .ok (.aload_n 0, 1) := dk_42 (dk_at dksX7_layChance_4 16 rfl rfl)
theorem dX7_layChance_113 : decode cX7_layChance 113 = .ok (.dup, 1) := dk_89 (dk_at dksX7_layChance_4 17 rfl rfl)
theorem dX7_layChance_114 : decode cX7_layChance 114 = .ok (.getfield 485, 3) := dk_180 1 229 (dk_at dksX7_layChance_4 18 rfl rfl)
theorem dX7_layChance_117 : decode cX7_layChance 117 = .ok (.iload 5, 2) := dk_21 5 (dk_at dksX7_layChance_4 21 rfl rfl)
theorem dX7_layChance_119 : decode cX7_layChance 119 = .ok (.ifCond .ne 7, 3) := dk_154 0 7 (dk_at dksX7_layChance_5 0 rfl rfl)
theorem dX7_layChance_122 : decode cX7_layChance 122 = .ok (.lload_n 3, 1) := dk_33 (dk_at dksX7_layChance_5 3 rfl rfl)
theorem dX7_layChance_123 : decode cX7_layChance 123 = .ok (.goto 4, 3) := dk_167 0 4 (dk_at dksX7_layChance_5 4 rfl rfl)
theorem dX7_layChance_126 : decode cX7_layChance 126 = .ok (.lconst 0, 1) := dk_9 (dk_at dksX7_layChance_5 7 rfl rfl)
theorem dX7_layChance_127 : decode cX7_layChance 127 = .ok (.ladd, 1) := dk_97 (dk_at dksX7_layChance_5 8 rfl rfl)
theorem dX7_layChance_128 : decode cX7_layChance 128 = .ok (.putfield 485, 3) := dk_181 1 229 (dk_at dksX7_layChance_5 9 rfl rfl)
theorem dX7_layChance_131 : decode cX7_layChance 131 = .ok (.aload_n 0, 1) := dk_42 (dk_at dksX7_layChance_5 12 rfl rfl)
theorem dX7_layChance_132 : decode cX7_layChance 132 = .ok (.dup, 1) := dk_89 (dk_at dksX7_layChance_5 13 rfl rfl)
theorem dX7_layChance_133 : decode cX7_layChance 133 = .ok (.getfield 488, 3) := dk_180 1 232 (dk_at dksX7_layChance_5 14 rfl rfl)
theorem dX7_layChance_136 : decode cX7_layChance 136 = .ok (.lload_n 3, 1) := dk_33 (dk_at dksX7_layChance_5 17 rfl rfl)
theorem dX7_layChance_137 : decode cX7_layChance 137 = .ok (.aload_n 0, 1) := dk_42 (dk_at dksX7_layChance_5 18 rfl rfl)
theorem dX7_layChance_138 : decode cX7_layChance 138 = .ok (.invokevirtual 321, 3) := dk_182 1 65 (dk_at dksX7_layChance_5 19 rfl rfl)
theorem dX7_layChance_141 : decode cX7_layChance 141 = .ok (.i2l, 1) := dk_133 (dk_at dksX7_layChance_5 22 rfl rfl)
theorem dX7_layChance_142 : decode cX7_layChance 142 = .ok (.lmul, 1) := dk_105 (dk_at dksX7_layChance_5 23 rfl rfl)
theorem dX7_layChance_143 : decode cX7_layChance 143 = .ok (.ladd, 1) := dk_97 (dk_at dksX7_layChance_6 0 rfl rfl)
theorem dX7_layChance_144 : decode cX7_layChance 144 = .ok (.putfield 488, 3) := dk_181 1 232 (dk_at dksX7_layChance_6 1 rfl rfl)
theorem dX7_layChance_147 : decode cX7_layChance 147 = .ok (.iinc 2 1, 3) := dk_132 2 1 (dk_at dksX7_layChance_6 4 rfl rfl)
theorem dX7_layChance_150 : decode cX7_layChance 150 = .ok (.goto (-128), 3) := dk_167 255 128 (dk_at dksX7_layChance_6 7 rfl rfl)
theorem dX7_layChance_153 : decode cX7_layChance 153 = .ok (.return_, 1) := dk_177 (dk_at dksX7_layChance_6 10 rfl rfl)
abbrev cX7_mean : ByteArray := prog_22_method_152_code
def yX7_mean : MethodName := ⟨RX7, "mean", "(I)J"⟩
def dkwX7_mean_1 : List UInt8 := [20, 1, 241, 173]
abbrev dktX7_mean_1 : List UInt8 := dkwX7_mean_1 ++ []
def dkwX7_mean_0 : List UInt8 := [42, 27, 182, 1, 238, 153, 0, 18, 42, 180, 1, 232, 42, 180, 1, 225, 27, 184, 1, 214, 167, 0, 6]
abbrev dktX7_mean_0 : List UInt8 := dkwX7_mean_0 ++ dktX7_mean_1
theorem dksX7_mean_0 : cX7_mean.data.toList.drop 0 = dktX7_mean_0 := by decide +kernel
theorem dksX7_mean_1 : cX7_mean.data.toList.drop 23 = dktX7_mean_1 := dk_seg dksX7_mean_0 23 rfl rfl
theorem dX7_mean_0 : decode cX7_mean 0 = .ok (.aload_n 0, 1) := dk_42 (dk_at dksX7_mean_0 0 rfl rfl)
theorem dX7_mean_1 : decode cX7_mean 1 = .ok (.iload_n 1, 1) := dk_27 (dk_at dksX7_mean_0 1 rfl rfl)
theorem dX7_mean_2 : decode cX7_mean 2 = .ok (.invokevirtual 494, 3) := dk_182 1 238 (dk_at dksX7_mean_0 2 rfl rfl)
theorem dX7_mean_5 : decode cX7_mean 5 = .ok (.ifCond .eq 18, 3) := dk_153 0 18 (dk_at dksX7_mean_0 5 rfl rfl)
theorem dX7_mean_8 : decode cX7_mean 8 = .ok (.aload_n 0, 1) := dk_42 (dk_at dksX7_mean_0 8 rfl rfl)
theorem dX7_mean_9 : decode cX7_mean 9 = .ok (.getfield 488, 3) := dk_180 1 232 (dk_at dksX7_mean_0 9 rfl rfl)
theorem dX7_mean_12 : decode cX7_mean 12 = .ok (.aload_n 0, 1) := dk_42 (dk_at dksX7_mean_0 12 rfl rfl)
theorem dX7_mean_13 : decode cX7_mean 13 = .ok (.getfield 481, 3) := dk_180 1 225 (dk_at dksX7_mean_0 13 rfl rfl)
theorem dX7_mean_16 : decode cX7_mean 16 = .ok (.iload_n 1, 1) := dk_27 (dk_at dksX7_mean_0 16 rfl rfl)
theorem dX7_mean_17 : decode cX7_mean 17 = .ok (.invokestatic 470, 3) := dk_184 1 214 (dk_at dksX7_mean_0 17 rfl rfl)
theorem dX7_mean_20 : decode cX7_mean 20 = .ok (.goto 6, 3) := dk_167 0 6 (dk_at dksX7_mean_0 20 rfl rfl)
theorem dX7_mean_23 : decode cX7_mean 23 = .ok (.ldc2_w 497, 3) := dk_20 1 241 (dk_at dksX7_mean_1 0 rfl rfl)
theorem dX7_mean_26 : decode cX7_mean 26 = .ok (.lreturn, 1) := dk_173 (dk_at dksX7_mean_1 3 rfl rfl)
abbrev cX7_lock : ByteArray := prog_22_method_154_code
def yX7_lock : MethodName := ⟨RX7, "lock", "(I)I"⟩
def dkwX7_lock_0 : List UInt8 := [42, 27, 182, 1, 11, 153, 0, 14, 42, 16, 100, 27, 96, 182, 1, 243, 167, 0, 5, 16, 254, 172]
abbrev dktX7_lock_0 : List UInt8 := dkwX7_lock_0 ++ []
theorem dksX7_lock_0 : cX7_lock.data.toList.drop 0 = dktX7_lock_0 := by decide +kernel
theorem dX7_lock_0 : decode cX7_lock 0 = .ok (.aload_n 0, 1) := dk_42 (dk_at dksX7_lock_0 0 rfl rfl)
theorem dX7_lock_1 : decode cX7_lock 1 = .ok (.iload_n 1, 1) := dk_27 (dk_at dksX7_lock_0 1 rfl rfl)
theorem dX7_lock_2 : decode cX7_lock 2 = .ok (.invokevirtual 267, 3) := dk_182 1 11 (dk_at dksX7_lock_0 2 rfl rfl)
theorem dX7_lock_5 : decode cX7_lock 5 = .ok (.ifCond .eq 14, 3) := dk_153 0 14 (dk_at dksX7_lock_0 5 rfl rfl)
theorem dX7_lock_8 : decode cX7_lock 8 = .ok (.aload_n 0, 1) := dk_42 (dk_at dksX7_lock_0 8 rfl rfl)
theorem dX7_lock_9 : decode cX7_lock 9 = .ok (.bipush 100, 2) := dk_16 100 (dk_at dksX7_lock_0 9 rfl rfl)
theorem dX7_lock_11 : decode cX7_lock 11 = .ok (.iload_n 1, 1) := dk_27 (dk_at dksX7_lock_0 11 rfl rfl)
theorem dX7_lock_12 : decode cX7_lock 12 = .ok (.iadd, 1) := dk_96 (dk_at dksX7_lock_0 12 rfl rfl)
theorem dX7_lock_13 : decode cX7_lock 13 = .ok (.invokevirtual 499, 3) := dk_182 1 243 (dk_at dksX7_lock_0 13 rfl rfl)
theorem dX7_lock_16 : decode cX7_lock 16 = .ok (.goto 5, 3) := dk_167 0 5 (dk_at dksX7_lock_0 16 rfl rfl)
theorem dX7_lock_19 : decode cX7_lock 19 = .ok (.bipush (-2), 2) := dk_16 254 (dk_at dksX7_lock_0 19 rfl rfl)
theorem dX7_lock_21 : decode cX7_lock 21 = .ok (.ireturn, 1) := dk_172 (dk_at dksX7_lock_0 21 rfl rfl)
abbrev cX7_keepAct : ByteArray := prog_22_method_153_code
def yX7_keepAct : MethodName := ⟨RX7, "keepAct", "(I)I"⟩
def dkwX7_keepAct_2 : List UInt8 := [87, 42, 4, 182, 1, 137, 172]
abbrev dktX7_keepAct_2 : List UInt8 := dkwX7_keepAct_2 ++ []
def dkwX7_keepAct_1 : List UInt8 := [180, 0, 9, 16, 6, 46, 96, 27, 79, 42, 180, 0, 9, 16, 6, 92, 46, 4, 96, 79, 42, 182, 1, 62]
abbrev dktX7_keepAct_1 : List UInt8 := dkwX7_keepAct_1 ++ dktX7_keepAct_2
def dkwX7_keepAct_0 : List UInt8 := [42, 180, 0, 9, 16, 6, 46, 16, 20, 160, 0, 6, 16, 251, 172, 42, 180, 0, 9, 16, 56, 42]
abbrev dktX7_keepAct_0 : List UInt8 := dkwX7_keepAct_0 ++ dktX7_keepAct_1
theorem dksX7_keepAct_0 : cX7_keepAct.data.toList.drop 0 = dktX7_keepAct_0 := by decide +kernel
theorem dksX7_keepAct_1 : cX7_keepAct.data.toList.drop 22 = dktX7_keepAct_1 := dk_seg dksX7_keepAct_0 22 rfl rfl
theorem dksX7_keepAct_2 : cX7_keepAct.data.toList.drop 46 = dktX7_keepAct_2 := dk_seg dksX7_keepAct_1 24 rfl rfl
theorem dX7_keepAct_0 : decode cX7_keepAct 0 = .ok (.aload_n 0, 1) := dk_42 (dk_at dksX7_keepAct_0 0 rfl rfl)
theorem dX7_keepAct_1 : decode cX7_keepAct 1 = .ok (.getfield 9, 3) := dk_180 0 9 (dk_at dksX7_keepAct_0 1 rfl rfl)
theorem dX7_keepAct_4 : decode cX7_keepAct 4 = .ok (.bipush 6, 2) := dk_16 6 (dk_at dksX7_keepAct_0 4 rfl rfl)
theorem dX7_keepAct_6 : decode cX7_keepAct 6 = .ok (.iaload, 1) := dk_46 (dk_at dksX7_keepAct_0 6 rfl rfl)
theorem dX7_keepAct_7 : decode cX7_keepAct 7 = .ok (.bipush 20, 2) := dk_16 20 (dk_at dksX7_keepAct_0 7 rfl rfl)
theorem dX7_keepAct_9 : decode cX7_keepAct 9 = .ok (.if_icmp .ne 6, 3) := dk_160 0 6 (dk_at dksX7_keepAct_0 9 rfl rfl)
theorem dX7_keepAct_12 : decode cX7_keepAct 12 = .ok (.bipush (-5), 2) := dk_16 251 (dk_at dksX7_keepAct_0 12 rfl rfl)
theorem dX7_keepAct_14 : decode cX7_keepAct 14 = .ok (.ireturn, 1) := dk_172 (dk_at dksX7_keepAct_0 14 rfl rfl)
theorem dX7_keepAct_15 : decode cX7_keepAct 15 = .ok (.aload_n 0, 1) := dk_42 (dk_at dksX7_keepAct_0 15 rfl rfl)
theorem dX7_keepAct_16 : decode cX7_keepAct 16 = .ok (.getfield 9, 3) := dk_180 0 9 (dk_at dksX7_keepAct_0 16 rfl rfl)
theorem dX7_keepAct_19 : decode cX7_keepAct 19 = .ok (.bipush 56, 2) := dk_16 56 (dk_at dksX7_keepAct_0 19 rfl rfl)
theorem dX7_keepAct_21 : decode cX7_keepAct 21 = .ok (.aload_n 0, 1) := dk_42 (dk_at dksX7_keepAct_0 21 rfl rfl)
theorem dX7_keepAct_22 : decode cX7_keepAct 22 = .ok (.getfield 9, 3) := dk_180 0 9 (dk_at dksX7_keepAct_1 0 rfl rfl)
theorem dX7_keepAct_25 : decode cX7_keepAct 25 = .ok (.bipush 6, 2) := dk_16 6 (dk_at dksX7_keepAct_1 3 rfl rfl)
theorem dX7_keepAct_27 : decode cX7_keepAct 27 = .ok (.iaload, 1) := dk_46 (dk_at dksX7_keepAct_1 5 rfl rfl)
theorem dX7_keepAct_28 : decode cX7_keepAct 28 = .ok (.iadd, 1) := dk_96 (dk_at dksX7_keepAct_1 6 rfl rfl)
theorem dX7_keepAct_29 : decode cX7_keepAct 29 = .ok (.iload_n 1, 1) := dk_27 (dk_at dksX7_keepAct_1 7 rfl rfl)
theorem dX7_keepAct_30 : decode cX7_keepAct 30 = .ok (.iastore, 1) := dk_79 (dk_at dksX7_keepAct_1 8 rfl rfl)
theorem dX7_keepAct_31 : decode cX7_keepAct 31 = .ok (.aload_n 0, 1) := dk_42 (dk_at dksX7_keepAct_1 9 rfl rfl)
theorem dX7_keepAct_32 : decode cX7_keepAct 32 = .ok (.getfield 9, 3) := dk_180 0 9 (dk_at dksX7_keepAct_1 10 rfl rfl)
theorem dX7_keepAct_35 : decode cX7_keepAct 35 = .ok (.bipush 6, 2) := dk_16 6 (dk_at dksX7_keepAct_1 13 rfl rfl)
theorem dX7_keepAct_37 : decode cX7_keepAct 37 = .ok (.dup2, 1) := dk_92 (dk_at dksX7_keepAct_1 15 rfl rfl)
theorem dX7_keepAct_38 : decode cX7_keepAct 38 = .ok (.iaload, 1) := dk_46 (dk_at dksX7_keepAct_1 16 rfl rfl)
theorem dX7_keepAct_39 : decode cX7_keepAct 39 = .ok (.iconst 1, 1) := dk_4 (dk_at dksX7_keepAct_1 17 rfl rfl)
theorem dX7_keepAct_40 : decode cX7_keepAct 40 = .ok (.iadd, 1) := dk_96 (dk_at dksX7_keepAct_1 18 rfl rfl)
theorem dX7_keepAct_41 : decode cX7_keepAct 41 = .ok (.iastore, 1) := dk_79 (dk_at dksX7_keepAct_1 19 rfl rfl)
theorem dX7_keepAct_42 : decode cX7_keepAct 42 = .ok (.aload_n 0, 1) := dk_42 (dk_at dksX7_keepAct_1 20 rfl rfl)
theorem dX7_keepAct_43 : decode cX7_keepAct 43 = .ok (.invokevirtual 318, 3) := dk_182 1 62 (dk_at dksX7_keepAct_1 21 rfl rfl)
theorem dX7_keepAct_46 : decode cX7_keepAct 46 = .ok (.pop, 1) := dk_87 (dk_at dksX7_keepAct_2 0 rfl rfl)
theorem dX7_keepAct_47 : decode cX7_keepAct 47 = .ok (.aload_n 0, 1) := dk_42 (dk_at dksX7_keepAct_2 1 rfl rfl)
theorem dX7_keepAct_48 : decode cX7_keepAct 48 = .ok (.iconst 1, 1) := dk_4 (dk_at dksX7_keepAct_2 2 rfl rfl)
theorem dX7_keepAct_49 : decode cX7_keepAct 49 = .ok (.invokevirtual 393, 3) := dk_182 1 137 (dk_at dksX7_keepAct_2 3 rfl rfl)
theorem dX7_keepAct_52 : decode cX7_keepAct 52 = .ok (.ireturn, 1) := dk_172 (dk_at dksX7_keepAct_2 6 rfl rfl)
abbrev cX7_frees : ByteArray := prog_22_method_155_code
def yX7_frees : MethodName := ⟨RX7, "frees", "(I)I"⟩
def dkwX7_frees_0 : List UInt8 := [42, 27, 182, 1, 11, 153, 0, 15, 42, 17, 0, 200, 27, 96, 182, 1, 243, 167, 0, 5, 16, 254, 172]
abbrev dktX7_frees_0 : List UInt8 := dkwX7_frees_0 ++ []
theorem dksX7_frees_0 : cX7_frees.data.toList.drop 0 = dktX7_frees_0 := by decide +kernel
theorem dX7_frees_0 : decode cX7_frees 0 = .ok (.aload_n 0, 1) := dk_42 (dk_at dksX7_frees_0 0 rfl rfl)
theorem dX7_frees_1 : decode cX7_frees 1 = .ok (.iload_n 1, 1) := dk_27 (dk_at dksX7_frees_0 1 rfl rfl)
theorem dX7_frees_2 : decode cX7_frees 2 = .ok (.invokevirtual 267, 3) := dk_182 1 11 (dk_at dksX7_frees_0 2 rfl rfl)
theorem dX7_frees_5 : decode cX7_frees 5 = .ok (.ifCond .eq 15, 3) := dk_153 0 15 (dk_at dksX7_frees_0 5 rfl rfl)
theorem dX7_frees_8 : decode cX7_frees 8 = .ok (.aload_n 0, 1) := dk_42 (dk_at dksX7_frees_0 8 rfl rfl)
theorem dX7_frees_9 : decode cX7_frees 9 = .ok (.sipush 200, 3) := dk_17 0 200 (dk_at dksX7_frees_0 9 rfl rfl)
theorem dX7_frees_12 : decode cX7_frees 12 = .ok (.iload_n 1, 1) := dk_27 (dk_at dksX7_frees_0 12 rfl rfl)
theorem dX7_frees_13 : decode cX7_frees 13 = .ok (.iadd, 1) := dk_96 (dk_at dksX7_frees_0 13 rfl rfl)
theorem dX7_frees_14 : decode cX7_frees 14 = .ok (.invokevirtual 499, 3) := dk_182 1 243 (dk_at dksX7_frees_0 14 rfl rfl)
theorem dX7_frees_17 : decode cX7_frees 17 = .ok (.goto 5, 3) := dk_167 0 5 (dk_at dksX7_frees_0 17 rfl rfl)
theorem dX7_frees_20 : decode cX7_frees 20 = .ok (.bipush (-2), 2) := dk_16 254 (dk_at dksX7_frees_0 20 rfl rfl)
theorem dX7_frees_22 : decode cX7_frees 22 = .ok (.ireturn, 1) := dk_172 (dk_at dksX7_frees_0 22 rfl rfl)
abbrev cX7_drops : ByteArray := prog_22_method_156_code
def yX7_drops : MethodName := ⟨RX7, "drops", "(I)I"⟩
def dkwX7_drops_0 : List UInt8 := [42, 27, 182, 1, 0, 153, 0, 15, 42, 17, 1, 44, 27, 96, 182, 1, 243, 167, 0, 5, 16, 254, 172]
abbrev dktX7_drops_0 : List UInt8 := dkwX7_drops_0 ++ []
theorem dksX7_drops_0 : cX7_drops.data.toList.drop 0 = dktX7_drops_0 := by decide +kernel
theorem dX7_drops_0 : decode cX7_drops 0 = .ok (.aload_n 0, 1) := dk_42 (dk_at dksX7_drops_0 0 rfl rfl)
theorem dX7_drops_1 : decode cX7_drops 1 = .ok (.iload_n 1, 1) := dk_27 (dk_at dksX7_drops_0 1 rfl rfl)
theorem dX7_drops_2 : decode cX7_drops 2 = .ok (.invokevirtual 256, 3) := dk_182 1 0 (dk_at dksX7_drops_0 2 rfl rfl)
theorem dX7_drops_5 : decode cX7_drops 5 = .ok (.ifCond .eq 15, 3) := dk_153 0 15 (dk_at dksX7_drops_0 5 rfl rfl)
theorem dX7_drops_8 : decode cX7_drops 8 = .ok (.aload_n 0, 1) := dk_42 (dk_at dksX7_drops_0 8 rfl rfl)
theorem dX7_drops_9 : decode cX7_drops 9 = .ok (.sipush 300, 3) := dk_17 1 44 (dk_at dksX7_drops_0 9 rfl rfl)
theorem dX7_drops_12 : decode cX7_drops 12 = .ok (.iload_n 1, 1) := dk_27 (dk_at dksX7_drops_0 12 rfl rfl)
theorem dX7_drops_13 : decode cX7_drops 13 = .ok (.iadd, 1) := dk_96 (dk_at dksX7_drops_0 13 rfl rfl)
theorem dX7_drops_14 : decode cX7_drops 14 = .ok (.invokevirtual 499, 3) := dk_182 1 243 (dk_at dksX7_drops_0 14 rfl rfl)
theorem dX7_drops_17 : decode cX7_drops 17 = .ok (.goto 5, 3) := dk_167 0 5 (dk_at dksX7_drops_0 17 rfl rfl)
theorem dX7_drops_20 : decode cX7_drops 20 = .ok (.bipush (-2), 2) := dk_16 254 (dk_at dksX7_drops_0 20 rfl rfl)
theorem dX7_drops_22 : decode cX7_drops 22 = .ok (.ireturn, 1) := dk_172 (dk_at dksX7_drops_0 22 rfl rfl)
abbrev cX7_undo : ByteArray := prog_22_method_157_code
def yX7_undo : MethodName := ⟨RX7, "undo", "()I"⟩
def dkwX7_undo_1 : List UInt8 := [180, 0, 9, 16, 6, 92, 46, 4, 100, 79, 42, 180, 0, 9, 16, 6, 46, 172]
abbrev dktX7_undo_1 : List UInt8 := dkwX7_undo_1 ++ []
def dkwX7_undo_0 : List UInt8 := [42, 182, 0, 92, 154, 0, 6, 16, 254, 172, 42, 180, 0, 9, 16, 6, 46, 154, 0, 6, 16, 251, 172, 42]
abbrev dktX7_undo_0 : List UInt8 := dkwX7_undo_0 ++ dktX7_undo_1
theorem dksX7_undo_0 : cX7_undo.data.toList.drop 0 = dktX7_undo_0 := by decide +kernel
theorem dksX7_undo_1 : cX7_undo.data.toList.drop 24 = dktX7_undo_1 := dk_seg dksX7_undo_0 24 rfl rfl
theorem dX7_undo_0 : decode cX7_undo 0 = .ok (.aload_n 0, 1) := dk_42 (dk_at dksX7_undo_0 0 rfl rfl)
theorem dX7_undo_1 : decode cX7_undo 1 = .ok (.invokevirtual 92, 3) := dk_182 0 92 (dk_at dksX7_undo_0 1 rfl rfl)
theorem dX7_undo_4 : decode cX7_undo 4 = .ok (.ifCond .ne 6, 3) := dk_154 0 6 (dk_at dksX7_undo_0 4 rfl rfl)
theorem dX7_undo_7 : decode cX7_undo 7 = .ok (.bipush (-2), 2) := dk_16 254 (dk_at dksX7_undo_0 7 rfl rfl)
theorem dX7_undo_9 : decode cX7_undo 9 = .ok (.ireturn, 1) := dk_172 (dk_at dksX7_undo_0 9 rfl rfl)
theorem dX7_undo_10 : decode cX7_undo 10 = .ok (.aload_n 0, 1) := dk_42 (dk_at dksX7_undo_0 10 rfl rfl)
theorem dX7_undo_11 : decode cX7_undo 11 = .ok (.getfield 9, 3) := dk_180 0 9 (dk_at dksX7_undo_0 11 rfl rfl)
theorem dX7_undo_14 : decode cX7_undo 14 = .ok (.bipush 6, 2) := dk_16 6 (dk_at dksX7_undo_0 14 rfl rfl)
theorem dX7_undo_16 : decode cX7_undo 16 = .ok (.iaload, 1) := dk_46 (dk_at dksX7_undo_0 16 rfl rfl)
theorem dX7_undo_17 : decode cX7_undo 17 = .ok (.ifCond .ne 6, 3) := dk_154 0 6 (dk_at dksX7_undo_0 17 rfl rfl)
theorem dX7_undo_20 : decode cX7_undo 20 = .ok (.bipush (-5), 2) := dk_16 251 (dk_at dksX7_undo_0 20 rfl rfl)
theorem dX7_undo_22 : decode cX7_undo 22 = .ok (.ireturn, 1) := dk_172 (dk_at dksX7_undo_0 22 rfl rfl)
theorem dX7_undo_23 : decode cX7_undo 23 = .ok (.aload_n 0, 1) := dk_42 (dk_at dksX7_undo_0 23 rfl rfl)
theorem dX7_undo_24 : decode cX7_undo 24 = .ok (.getfield 9, 3) := dk_180 0 9 (dk_at dksX7_undo_1 0 rfl rfl)
theorem dX7_undo_27 : decode cX7_undo 27 = .ok (.bipush 6, 2) := dk_16 6 (dk_at dksX7_undo_1 3 rfl rfl)
theorem dX7_undo_29 : decode cX7_undo 29 = .ok (.dup2, 1) := dk_92 (dk_at dksX7_undo_1 5 rfl rfl)
theorem dX7_undo_30 : decode cX7_undo 30 = .ok (.iaload, 1) := dk_46 (dk_at dksX7_undo_1 6 rfl rfl)
theorem dX7_undo_31 : decode cX7_undo 31 = .ok (.iconst 1, 1) := dk_4 (dk_at dksX7_undo_1 7 rfl rfl)
theorem dX7_undo_32 : decode cX7_undo 32 = .ok (.isub, 1) := dk_100 (dk_at dksX7_undo_1 8 rfl rfl)
theorem dX7_undo_33 : decode cX7_undo 33 = .ok (.iastore, 1) := dk_79 (dk_at dksX7_undo_1 9 rfl rfl)
theorem dX7_undo_34 : decode cX7_undo 34 = .ok (.aload_n 0, 1) := dk_42 (dk_at dksX7_undo_1 10 rfl rfl)
theorem dX7_undo_35 : decode cX7_undo 35 = .ok (.getfield 9, 3) := dk_180 0 9 (dk_at dksX7_undo_1 11 rfl rfl)
theorem dX7_undo_38 : decode cX7_undo 38 = .ok (.bipush 6, 2) := dk_16 6 (dk_at dksX7_undo_1 14 rfl rfl)
theorem dX7_undo_40 : decode cX7_undo 40 = .ok (.iaload, 1) := dk_46 (dk_at dksX7_undo_1 16 rfl rfl)
theorem dX7_undo_41 : decode cX7_undo 41 = .ok (.ireturn, 1) := dk_172 (dk_at dksX7_undo_1 17 rfl rfl)
abbrev cX7_anew : ByteArray := prog_22_method_158_code
def yX7_anew : MethodName := ⟨RX7, "anew", "()I"⟩
def dkwX7_anew_1 : List UInt8 := [3, 79, 27, 172]
abbrev dktX7_anew_1 : List UInt8 := dkwX7_anew_1 ++ []
def dkwX7_anew_0 : List UInt8 := [42, 182, 0, 92, 154, 0, 6, 16, 254, 172, 42, 180, 0, 9, 16, 6, 46, 60, 42, 180, 0, 9, 16, 6]
abbrev dktX7_anew_0 : List UInt8 := dkwX7_anew_0 ++ dktX7_anew_1
theorem dksX7_anew_0 : cX7_anew.data.toList.drop 0 = dktX7_anew_0 := by decide +kernel
theorem dksX7_anew_1 : cX7_anew.data.toList.drop 24 = dktX7_anew_1 := dk_seg dksX7_anew_0 24 rfl rfl
theorem dX7_anew_0 : decode cX7_anew 0 = .ok (.aload_n 0, 1) := dk_42 (dk_at dksX7_anew_0 0 rfl rfl)
theorem dX7_anew_1 : decode cX7_anew 1 = .ok (.invokevirtual 92, 3) := dk_182 0 92 (dk_at dksX7_anew_0 1 rfl rfl)
theorem dX7_anew_4 : decode cX7_anew 4 = .ok (.ifCond .ne 6, 3) := dk_154 0 6 (dk_at dksX7_anew_0 4 rfl rfl)
theorem dX7_anew_7 : decode cX7_anew 7 = .ok (.bipush (-2), 2) := dk_16 254 (dk_at dksX7_anew_0 7 rfl rfl)
theorem dX7_anew_9 : decode cX7_anew 9 = .ok (.ireturn, 1) := dk_172 (dk_at dksX7_anew_0 9 rfl rfl)
theorem dX7_anew_10 : decode cX7_anew 10 = .ok (.aload_n 0, 1) := dk_42 (dk_at dksX7_anew_0 10 rfl rfl)
theorem dX7_anew_11 : decode cX7_anew 11 = .ok (.getfield 9, 3) := dk_180 0 9 (dk_at dksX7_anew_0 11 rfl rfl)
theorem dX7_anew_14 : decode cX7_anew 14 = .ok (.bipush 6, 2) := dk_16 6 (dk_at dksX7_anew_0 14 rfl rfl)
theorem dX7_anew_16 : decode cX7_anew 16 = .ok (.iaload, 1) := dk_46 (dk_at dksX7_anew_0 16 rfl rfl)
theorem dX7_anew_17 : decode cX7_anew 17 = .ok (.istore_n 1, 1) := dk_60 (dk_at dksX7_anew_0 17 rfl rfl)
theorem dX7_anew_18 : decode cX7_anew 18 = .ok (.aload_n 0, 1) := dk_42 (dk_at dksX7_anew_0 18 rfl rfl)
theorem dX7_anew_19 : decode cX7_anew 19 = .ok (.getfield 9, 3) := dk_180 0 9 (dk_at dksX7_anew_0 19 rfl rfl)
theorem dX7_anew_22 : decode cX7_anew 22 = .ok (.bipush 6, 2) := dk_16 6 (dk_at dksX7_anew_0 22 rfl rfl)
theorem dX7_anew_24 : decode cX7_anew 24 = .ok (.iconst 0, 1) := dk_3 (dk_at dksX7_anew_1 0 rfl rfl)
theorem dX7_anew_25 : decode cX7_anew 25 = .ok (.iastore, 1) := dk_79 (dk_at dksX7_anew_1 1 rfl rfl)
theorem dX7_anew_26 : decode cX7_anew 26 = .ok (.iload_n 1, 1) := dk_27 (dk_at dksX7_anew_1 2 rfl rfl)
theorem dX7_anew_27 : decode cX7_anew 27 = .ok (.ireturn, 1) := dk_172 (dk_at dksX7_anew_1 3 rfl rfl)
abbrev cX7_drawn : ByteArray := prog_22_method_161_code
def yX7_drawn : MethodName := ⟨RX7, "drawn", "(II)I"⟩
def dkwX7_drawn_2 : List UInt8 := [2, 130, 126, 182, 1, 199, 172]
abbrev dktX7_drawn_2 : List UInt8 := dkwX7_drawn_2 ++ []
def dkwX7_drawn_1 : List UInt8 := [16, 254, 172, 42, 27, 133, 182, 2, 5, 62, 28, 154, 0, 7, 29, 167, 0, 15, 42, 42, 182, 1, 146, 29]
abbrev dktX7_drawn_1 : List UInt8 := dkwX7_drawn_1 ++ dktX7_drawn_2
def dkwX7_drawn_0 : List UInt8 := [42, 182, 0, 92, 153, 0, 20, 27, 184, 2, 2, 153, 0, 13, 28, 133, 9, 10, 184, 0, 76, 154, 0, 6]
abbrev dktX7_drawn_0 : List UInt8 := dkwX7_drawn_0 ++ dktX7_drawn_1
theorem dksX7_drawn_0 : cX7_drawn.data.toList.drop 0 = dktX7_drawn_0 := by decide +kernel
theorem dksX7_drawn_1 : cX7_drawn.data.toList.drop 24 = dktX7_drawn_1 := dk_seg dksX7_drawn_0 24 rfl rfl
theorem dksX7_drawn_2 : cX7_drawn.data.toList.drop 48 = dktX7_drawn_2 := dk_seg dksX7_drawn_1 24 rfl rfl
theorem dX7_drawn_0 : decode cX7_drawn 0 = .ok (.aload_n 0, 1) := dk_42 (dk_at dksX7_drawn_0 0 rfl rfl)
theorem dX7_drawn_1 : decode cX7_drawn 1 = .ok (.invokevirtual 92, 3) := dk_182 0 92 (dk_at dksX7_drawn_0 1 rfl rfl)
theorem dX7_drawn_4 : decode cX7_drawn 4 = .ok (.ifCond .eq 20, 3) := dk_153 0 20 (dk_at dksX7_drawn_0 4 rfl rfl)
theorem dX7_drawn_7 : decode cX7_drawn 7 = .ok (.iload_n 1, 1) := dk_27 (dk_at dksX7_drawn_0 7 rfl rfl)
theorem dX7_drawn_8 : decode cX7_drawn 8 = .ok (.invokestatic 514, 3) := dk_184 2 2 (dk_at dksX7_drawn_0 8 rfl rfl)
theorem dX7_drawn_11 : decode cX7_drawn 11 = .ok (.ifCond .eq 13, 3) := dk_153 0 13 (dk_at dksX7_drawn_0 11 rfl rfl)
theorem dX7_drawn_14 : decode cX7_drawn 14 = .ok (.iload_n 2, 1) := dk_28 (dk_at dksX7_drawn_0 14 rfl rfl)
theorem dX7_drawn_15 : decode cX7_drawn 15 = .ok (.i2l, 1) := dk_133 (dk_at dksX7_drawn_0 15 rfl rfl)
theorem dX7_drawn_16 : decode cX7_drawn 16 = .ok (.lconst 0, 1) := dk_9 (dk_at dksX7_drawn_0 16 rfl rfl)
theorem dX7_drawn_17 : decode cX7_drawn 17 = .ok (.lconst 1, 1) := dk_10 (dk_at dksX7_drawn_0 17 rfl rfl)
theorem dX7_drawn_18 : decode cX7_drawn 18 = .ok (.invokestatic 76, 3) := dk_184 0 76 (dk_at dksX7_drawn_0 18 rfl rfl)
theorem dX7_drawn_21 : decode cX7_drawn 21 = .ok (.ifCond .ne 6, 3) := dk_154 0 6 (dk_at dksX7_drawn_0 21 rfl rfl)
theorem dX7_drawn_24 : decode cX7_drawn 24 = .ok (.bipush (-2), 2) := dk_16 254 (dk_at dksX7_drawn_1 0 rfl rfl)
theorem dX7_drawn_26 : decode cX7_drawn 26 = .ok (.ireturn, 1) := dk_172 (dk_at dksX7_drawn_1 2 rfl rfl)
theorem dX7_drawn_27 : decode cX7_drawn 27 = .ok (.aload_n 0, 1) := dk_42 (dk_at dksX7_drawn_1 3 rfl rfl)
theorem dX7_drawn_28 : decode cX7_drawn 28 = .ok (.iload_n 1, 1) := dk_27 (dk_at dksX7_drawn_1 4 rfl rfl)
theorem dX7_drawn_29 : decode cX7_drawn 29 = .ok (.i2l, 1) := dk_133 (dk_at dksX7_drawn_1 5 rfl rfl)
theorem dX7_drawn_30 : decode cX7_drawn 30 = .ok (.invokevirtual 517, 3) := dk_182 2 5 (dk_at dksX7_drawn_1 6 rfl rfl)
theorem dX7_drawn_33 : decode cX7_drawn 33 = .ok (.istore_n 3, 1) := dk_62 (dk_at dksX7_drawn_1 9 rfl rfl)
theorem dX7_drawn_34 : decode cX7_drawn 34 = .ok (.iload_n 2, 1) := dk_28 (dk_at dksX7_drawn_1 10 rfl rfl)
theorem dX7_drawn_35 : decode cX7_drawn 35 = .ok (.ifCond .ne 7, 3) := dk_154 0 7 (dk_at dksX7_drawn_1 11 rfl rfl)
theorem dX7_drawn_38 : decode cX7_drawn 38 = .ok (.iload_n 3, 1) := dk_29 (dk_at dksX7_drawn_1 14 rfl rfl)
theorem dX7_drawn_39 : decode cX7_drawn 39 = .ok (.goto 15, 3) := dk_167 0 15 (dk_at dksX7_drawn_1 15 rfl rfl)
theorem dX7_drawn_42 : decode cX7_drawn 42 = .ok (.aload_n 0, 1) := dk_42 (dk_at dksX7_drawn_1 18 rfl rfl)
theorem dX7_drawn_43 : decode cX7_drawn 43 = .ok (.aload_n 0, 1) := dk_42 (dk_at dksX7_drawn_1 19 rfl rfl)
theorem dX7_drawn_44 : decode cX7_drawn 44 = .ok (.invokevirtual 402, 3) := dk_182 1 146 (dk_at dksX7_drawn_1 20 rfl rfl)
theorem dX7_drawn_47 : decode cX7_drawn 47 = .ok (.iload_n 3, 1) := dk_29 (dk_at dksX7_drawn_1 23 rfl rfl)
theorem dX7_drawn_48 : decode cX7_drawn 48 = .ok (.iconst (-1), 1) := dk_2 (dk_at dksX7_drawn_2 0 rfl rfl)
theorem dX7_drawn_49 : decode cX7_drawn 49 = .ok (.ixor, 1) := dk_130 (dk_at dksX7_drawn_2 1 rfl rfl)
theorem dX7_drawn_50 : decode cX7_drawn 50 = .ok (.iand, 1) := dk_126 (dk_at dksX7_drawn_2 2 rfl rfl)
theorem dX7_drawn_51 : decode cX7_drawn 51 = .ok (.invokevirtual 455, 3) := dk_182 1 199 (dk_at dksX7_drawn_2 3 rfl rfl)
theorem dX7_drawn_54 : decode cX7_drawn 54 = .ok (.ireturn, 1) := dk_172 (dk_at dksX7_drawn_2 6 rfl rfl)
abbrev cX7_isSeed : ByteArray := prog_22_method_160_code
def yX7_isSeed : MethodName := ⟨RX7, "isSeed", "(I)Z"⟩
def dkwX7_isSeed_0 : List UInt8 := [26, 133, 9, 20, 2, 0, 184, 0, 76, 172]
abbrev dktX7_isSeed_0 : List UInt8 := dkwX7_isSeed_0 ++ []
theorem dksX7_isSeed_0 : cX7_isSeed.data.toList.drop 0 = dktX7_isSeed_0 := by decide +kernel
theorem dX7_isSeed_0 : decode cX7_isSeed 0 = .ok (.iload_n 0, 1) := dk_26 (dk_at dksX7_isSeed_0 0 rfl rfl)
theorem dX7_isSeed_1 : decode cX7_isSeed 1 = .ok (.i2l, 1) := dk_133 (dk_at dksX7_isSeed_0 1 rfl rfl)
theorem dX7_isSeed_2 : decode cX7_isSeed 2 = .ok (.lconst 0, 1) := dk_9 (dk_at dksX7_isSeed_0 2 rfl rfl)
theorem dX7_isSeed_3 : decode cX7_isSeed 3 = .ok (.ldc2_w 512, 3) := dk_20 2 0 (dk_at dksX7_isSeed_0 3 rfl rfl)
theorem dX7_isSeed_6 : decode cX7_isSeed 6 = .ok (.invokestatic 76, 3) := dk_184 0 76 (dk_at dksX7_isSeed_0 6 rfl rfl)
theorem dX7_isSeed_9 : decode cX7_isSeed 9 = .ok (.ireturn, 1) := dk_172 (dk_at dksX7_isSeed_0 9 rfl rfl)
abbrev cX7_drawnSet : ByteArray := prog_22_method_159_code
def yX7_drawnSet : MethodName := ⟨RX7, "drawnSet", "(J)I"⟩
def dkwX7_drawnSet_3 : List UInt8 := [21, 5, 172]
abbrev dktX7_drawnSet_3 : List UInt8 := dkwX7_drawnSet_3 ++ []
def dkwX7_drawnSet_2 : List UInt8 := [5, 46, 133, 148, 156, 0, 10, 4, 21, 6, 120, 167, 0, 4, 3, 128, 54, 5, 132, 6, 1, 167, 255, 197]
abbrev dktX7_drawnSet_2 : List UInt8 := dkwX7_drawnSet_2 ++ dktX7_drawnSet_3
def dkwX7_drawnSet_1 : List UInt8 := [20, 1, 248, 97, 20, 1, 250, 113, 66, 21, 5, 33, 20, 1, 252, 109, 20, 1, 254, 113, 42, 180, 0, 9]
abbrev dktX7_drawnSet_1 : List UInt8 := dkwX7_drawnSet_1 ++ dktX7_drawnSet_2
def dkwX7_drawnSet_0 : List UInt8 := [31, 66, 3, 54, 5, 3, 54, 6, 21, 6, 42, 182, 0, 80, 162, 0, 56, 20, 1, 246, 33, 105]
abbrev dktX7_drawnSet_0 : List UInt8 := dkwX7_drawnSet_0 ++ dktX7_drawnSet_1
theorem dksX7_drawnSet_0 : cX7_drawnSet.data.toList.drop 0 = dktX7_drawnSet_0 := by decide +kernel
theorem dksX7_drawnSet_1 : cX7_drawnSet.data.toList.drop 22 = dktX7_drawnSet_1 := dk_seg dksX7_drawnSet_0 22 rfl rfl
theorem dksX7_drawnSet_2 : cX7_drawnSet.data.toList.drop 46 = dktX7_drawnSet_2 := dk_seg dksX7_drawnSet_1 24 rfl rfl
theorem dksX7_drawnSet_3 : cX7_drawnSet.data.toList.drop 70 = dktX7_drawnSet_3 := dk_seg dksX7_drawnSet_2 24 rfl rfl
theorem dX7_drawnSet_0 : decode cX7_drawnSet 0 = .ok (.lload_n 1, 1) := dk_31 (dk_at dksX7_drawnSet_0 0 rfl rfl)
theorem dX7_drawnSet_1 : decode cX7_drawnSet 1 = .ok (.lstore_n 3, 1) := dk_66 (dk_at dksX7_drawnSet_0 1 rfl rfl)
theorem dX7_drawnSet_2 : decode cX7_drawnSet 2 = .ok (.iconst 0, 1) := dk_3 (dk_at dksX7_drawnSet_0 2 rfl rfl)
theorem dX7_drawnSet_3 : decode cX7_drawnSet 3 = .ok (.istore 5, 2) := dk_54 5 (dk_at dksX7_drawnSet_0 3 rfl rfl)
theorem dX7_drawnSet_5 : decode cX7_drawnSet 5 = .ok (.iconst 0, 1) := dk_3 (dk_at dksX7_drawnSet_0 5 rfl rfl)
theorem dX7_drawnSet_6 : decode cX7_drawnSet 6 = .ok (.istore 6, 2) := dk_54 6 (dk_at dksX7_drawnSet_0 6 rfl rfl)
theorem dX7_drawnSet_8 : decode cX7_drawnSet 8 = .ok (.iload 6, 2) := dk_21 6 (dk_at dksX7_drawnSet_0 8 rfl rfl)
theorem dX7_drawnSet_10 : decode cX7_drawnSet 10 = .ok (.aload_n 0, 1) := dk_42 (dk_at dksX7_drawnSet_0 10 rfl rfl)
theorem dX7_drawnSet_11 : decode cX7_drawnSet 11 = .ok (.invokevirtual 80, 3) := dk_182 0 80 (dk_at dksX7_drawnSet_0 11 rfl rfl)
theorem dX7_drawnSet_14 : decode cX7_drawnSet 14 = .ok (.if_icmp .ge 56, 3) := dk_162 0 56 (dk_at dksX7_drawnSet_0 14 rfl rfl)
theorem dX7_drawnSet_17 : decode cX7_drawnSet 17 = .ok (.ldc2_w 502, 3) := dk_20 1 246 (dk_at dksX7_drawnSet_0 17 rfl rfl)
theorem dX7_drawnSet_20 : decode cX7_drawnSet 20 = .ok (.lload_n 3, 1) := dk_33 (dk_at dksX7_drawnSet_0 20 rfl rfl)
theorem dX7_drawnSet_21 : decode cX7_drawnSet 21 = .ok (.lmul, 1) := dk_105 (dk_at dksX7_drawnSet_0 21 rfl rfl)
theorem dX7_drawnSet_22 : decode cX7_drawnSet 22 = .ok (.ldc2_w 504, 3) := dk_20 1 248 (dk_at dksX7_drawnSet_1 0 rfl rfl)
theorem dX7_drawnSet_25 : decode cX7_drawnSet 25 = .ok (.ladd, 1) := dk_97 (dk_at dksX7_drawnSet_1 3 rfl rfl)
theorem dX7_drawnSet_26 : decode cX7_drawnSet 26 = .ok (.ldc2_w 506, 3) := dk_20 1 250 (dk_at dksX7_drawnSet_1 4 rfl rfl)
theorem dX7_drawnSet_29 : decode cX7_drawnSet 29 = .ok (.lrem, 1) := dk_113 (dk_at dksX7_drawnSet_1 7 rfl rfl)
theorem dX7_drawnSet_30 : decode cX7_drawnSet 30 = .ok (.lstore_n 3, 1) := dk_66 (dk_at dksX7_drawnSet_1 8 rfl rfl)
theorem dX7_drawnSet_31 : decode cX7_drawnSet 31 = .ok (.iload 5, 2) := dk_21 5 (dk_at dksX7_drawnSet_1 9 rfl rfl)
theorem dX7_drawnSet_33 : decode cX7_drawnSet 33 = .ok (.lload_n 3, 1) := dk_33 (dk_at dksX7_drawnSet_1 11 rfl rfl)
theorem dX7_drawnSet_34 : decode cX7_drawnSet 34 = .ok (.ldc2_w 508, 3) := dk_20 1 252 (dk_at dksX7_drawnSet_1 12 rfl rfl)
theorem dX7_drawnSet_37 : decode cX7_drawnSet 37 = .ok (.ldiv, 1) := dk_109 (dk_at dksX7_drawnSet_1 15 rfl rfl)
theorem dX7_drawnSet_38 : decode cX7_drawnSet 38 = .ok (.ldc2_w 510, 3) := dk_20 1 254 (dk_at dksX7_drawnSet_1 16 rfl rfl)
theorem dX7_drawnSet_41 : decode cX7_drawnSet 41 = .ok (.lrem, 1) := dk_113 (dk_at dksX7_drawnSet_1 19 rfl rfl)
theorem dX7_drawnSet_42 : decode cX7_drawnSet 42 = .ok (.aload_n 0, 1) := dk_42 (dk_at dksX7_drawnSet_1 20 rfl rfl)
theorem dX7_drawnSet_43 : decode cX7_drawnSet 43 = .ok (.getfield 9, 3) := dk_180 0 9 (dk_at dksX7_drawnSet_1 21 rfl rfl)
theorem dX7_drawnSet_46 : decode cX7_drawnSet 46 = .ok (.iconst 2, 1) := dk_5 (dk_at dksX7_drawnSet_2 0 rfl rfl)
theorem dX7_drawnSet_47 : decode cX7_drawnSet 47 = .ok (.iaload, 1) := dk_46 (dk_at dksX7_drawnSet_2 1 rfl rfl)
theorem dX7_drawnSet_48 : decode cX7_drawnSet 48 = .ok (.i2l, 1) := dk_133 (dk_at dksX7_drawnSet_2 2 rfl rfl)
theorem dX7_drawnSet_49 : decode cX7_drawnSet 49 = .ok (.lcmp, 1) := dk_148 (dk_at dksX7_drawnSet_2 3 rfl rfl)
theorem dX7_drawnSet_50 : decode cX7_drawnSet 50 = .ok (.ifCond .ge 10, 3) := dk_156 0 10 (dk_at dksX7_drawnSet_2 4 rfl rfl)
theorem dX7_drawnSet_53 : decode cX7_drawnSet 53 = .ok (.iconst 1, 1) := dk_4 (dk_at dksX7_drawnSet_2 7 rfl rfl)
theorem dX7_drawnSet_54 : decode cX7_drawnSet 54 = .ok (.iload 6, 2) := dk_21 6 (dk_at dksX7_drawnSet_2 8 rfl rfl)
theorem dX7_drawnSet_56 : decode cX7_drawnSet 56 = .ok (.ishl, 1) := dk_120 (dk_at dksX7_drawnSet_2 10 rfl rfl)
theorem dX7_drawnSet_57 : decode cX7_drawnSet 57 = .ok (.goto 4, 3) := dk_167 0 4 (dk_at dksX7_drawnSet_2 11 rfl rfl)
theorem dX7_drawnSet_60 : decode cX7_drawnSet 60 = .ok (.iconst 0, 1) := dk_3 (dk_at dksX7_drawnSet_2 14 rfl rfl)
theorem dX7_drawnSet_61 : decode cX7_drawnSet 61 = .ok (.ior, 1) := dk_128 (dk_at dksX7_drawnSet_2 15 rfl rfl)
theorem dX7_drawnSet_62 : decode cX7_drawnSet 62 = .ok (.istore 5, 2) := dk_54 5 (dk_at dksX7_drawnSet_2 16 rfl rfl)
theorem dX7_drawnSet_64 : decode cX7_drawnSet 64 = .ok (.iinc 6 1, 3) := dk_132 6 1 (dk_at dksX7_drawnSet_2 18 rfl rfl)
theorem dX7_drawnSet_67 : decode cX7_drawnSet 67 = .ok (.goto (-59), 3) := dk_167 255 197 (dk_at dksX7_drawnSet_2 21 rfl rfl)
theorem dX7_drawnSet_70 : decode cX7_drawnSet 70 = .ok (.iload 5, 2) := dk_21 5 (dk_at dksX7_drawnSet_3 0 rfl rfl)
theorem dX7_drawnSet_72 : decode cX7_drawnSet 72 = .ok (.ireturn, 1) := dk_172 (dk_at dksX7_drawnSet_3 2 rfl rfl)
abbrev cX7_luck : ByteArray := prog_22_method_162_code
def yX7_luck : MethodName := ⟨RX7, "luck", "(II)I"⟩
def dkwX7_luck_3 : List UInt8 := [62, 132, 4, 1, 167, 255, 215, 29, 172]
abbrev dktX7_luck_3 : List UInt8 := dkwX7_luck_3 ++ []
def dkwX7_luck_2 : List UInt8 := [27, 133, 21, 4, 133, 97, 182, 2, 5, 2, 130, 126, 182, 1, 199, 154, 0, 7, 4, 167, 0, 4, 3, 96]
abbrev dktX7_luck_2 : List UInt8 := dkwX7_luck_2 ++ dktX7_luck_3
def dkwX7_luck_1 : List UInt8 := [154, 0, 6, 16, 254, 172, 3, 62, 3, 54, 4, 21, 4, 28, 162, 0, 41, 29, 42, 42, 182, 1, 146, 42]
abbrev dktX7_luck_1 : List UInt8 := dkwX7_luck_1 ++ dktX7_luck_2
def dkwX7_luck_0 : List UInt8 := [42, 182, 0, 92, 153, 0, 22, 27, 184, 2, 2, 153, 0, 15, 28, 133, 10, 20, 2, 9, 184, 0, 76]
abbrev dktX7_luck_0 : List UInt8 := dkwX7_luck_0 ++ dktX7_luck_1
theorem dksX7_luck_0 : cX7_luck.data.toList.drop 0 = dktX7_luck_0 := by decide +kernel
theorem dksX7_luck_1 : cX7_luck.data.toList.drop 23 = dktX7_luck_1 := dk_seg dksX7_luck_0 23 rfl rfl
theorem dksX7_luck_2 : cX7_luck.data.toList.drop 47 = dktX7_luck_2 := dk_seg dksX7_luck_1 24 rfl rfl
theorem dksX7_luck_3 : cX7_luck.data.toList.drop 71 = dktX7_luck_3 := dk_seg dksX7_luck_2 24 rfl rfl
theorem dX7_luck_0 : decode cX7_luck 0 = .ok (.aload_n 0, 1) := dk_42 (dk_at dksX7_luck_0 0 rfl rfl)
theorem dX7_luck_1 : decode cX7_luck 1 = .ok (.invokevirtual 92, 3) := dk_182 0 92 (dk_at dksX7_luck_0 1 rfl rfl)
theorem dX7_luck_4 : decode cX7_luck 4 = .ok (.ifCond .eq 22, 3) := dk_153 0 22 (dk_at dksX7_luck_0 4 rfl rfl)
theorem dX7_luck_7 : decode cX7_luck 7 = .ok (.iload_n 1, 1) := dk_27 (dk_at dksX7_luck_0 7 rfl rfl)
theorem dX7_luck_8 : decode cX7_luck 8 = .ok (.invokestatic 514, 3) := dk_184 2 2 (dk_at dksX7_luck_0 8 rfl rfl)
theorem dX7_luck_11 : decode cX7_luck 11 = .ok (.ifCond .eq 15, 3) := dk_153 0 15 (dk_at dksX7_luck_0 11 rfl rfl)
theorem dX7_luck_14 : decode cX7_luck 14 = .ok (.iload_n 2, 1) := dk_28 (dk_at dksX7_luck_0 14 rfl rfl)
theorem dX7_luck_15 : decode cX7_luck 15 = .ok (.i2l, 1) := dk_133 (dk_at dksX7_luck_0 15 rfl rfl)
theorem dX7_luck_16 : decode cX7_luck 16 = .ok (.lconst 1, 1) := dk_10 (dk_at dksX7_luck_0 16 rfl rfl)
theorem dX7_luck_17 : decode cX7_luck 17 = .ok (.ldc2_w 521, 3) := dk_20 2 9 (dk_at dksX7_luck_0 17 rfl rfl)
theorem dX7_luck_20 : decode cX7_luck 20 = .ok (.invokestatic 76, 3) := dk_184 0 76 (dk_at dksX7_luck_0 20 rfl rfl)
theorem dX7_luck_23 : decode cX7_luck 23 = .ok (.ifCond .ne 6, 3) := dk_154 0 6 (dk_at dksX7_luck_1 0 rfl rfl)
theorem dX7_luck_26 : decode cX7_luck 26 = .ok (.bipush (-2), 2) := dk_16 254 (dk_at dksX7_luck_1 3 rfl rfl)
theorem dX7_luck_28 : decode cX7_luck 28 = .ok (.ireturn, 1) := dk_172 (dk_at dksX7_luck_1 5 rfl rfl)
theorem dX7_luck_29 : decode cX7_luck 29 = .ok (.iconst 0, 1) := dk_3 (dk_at dksX7_luck_1 6 rfl rfl)
theorem dX7_luck_30 : decode cX7_luck 30 = .ok (.istore_n 3, 1) := dk_62 (dk_at dksX7_luck_1 7 rfl rfl)
theorem dX7_luck_31 : decode cX7_luck 31 = .ok (.iconst 0, 1) := dk_3 (dk_at dksX7_luck_1 8 rfl rfl)
theorem dX7_luck_32 : decode cX7_luck 32 = .ok (.istore 4, 2) := dk_54 4 (dk_at dksX7_luck_1 9 rfl rfl)
theorem dX7_luck_34 : decode cX7_luck 34 = .ok (.iload 4, 2) := dk_21 4 (dk_at dksX7_luck_1 11 rfl rfl)
theorem dX7_luck_36 : decode cX7_luck 36 = .ok (.iload_n 2, 1) := dk_28 (dk_at dksX7_luck_1 13 rfl rfl)
theorem dX7_luck_37 : decode cX7_luck 37 = .ok (.if_icmp .ge 41, 3) := dk_162 0 41 (dk_at dksX7_luck_1 14 rfl rfl)
theorem dX7_luck_40 : decode cX7_luck 40 = .ok (.iload_n 3, 1) := dk_29 (dk_at dksX7_luck_1 17 rfl rfl)
theorem dX7_luck_41 : decode cX7_luck 41 = .ok (.aload_n 0, 1) := dk_42 (dk_at dksX7_luck_1 18 rfl rfl)
theorem dX7_luck_42 : decode cX7_luck 42 = .ok (.aload_n 0, 1) := dk_42 (dk_at dksX7_luck_1 19 rfl rfl)
theorem dX7_luck_43 : decode cX7_luck 43 = .ok (.invokevirtual 402, 3) := dk_182 1 146 (dk_at dksX7_luck_1 20 rfl rfl)
theorem dX7_luck_46 : decode cX7_luck 46 = .ok (.aload_n 0, 1) := dk_42 (dk_at dksX7_luck_1 23 rfl rfl)
theorem dX7_luck_47 : decode cX7_luck 47 = .ok (.iload_n 1, 1) := dk_27 (dk_at dksX7_luck_2 0 rfl rfl)
theorem dX7_luck_48 : decode cX7_luck 48 = .ok (.i2l, 1) := dk_133 (dk_at dksX7_luck_2 1 rfl rfl)
theorem dX7_luck_49 : decode cX7_luck 49 = .ok (.iload 4, 2) := dk_21 4 (dk_at dksX7_luck_2 2 rfl rfl)
theorem dX7_luck_51 : decode cX7_luck 51 = .ok (.i2l, 1) := dk_133 (dk_at dksX7_luck_2 4 rfl rfl)
theorem dX7_luck_52 : decode cX7_luck 52 = .ok (.ladd, 1) := dk_97 (dk_at dksX7_luck_2 5 rfl rfl)
theorem dX7_luck_53 : decode cX7_luck 53 = .ok (.invokevirtual 517, 3) := dk_182 2 5 (dk_at dksX7_luck_2 6 rfl rfl)
theorem dX7_luck_56 : decode cX7_luck 56 = .ok (.iconst (-1), 1) := dk_2 (dk_at dksX7_luck_2 9 rfl rfl)
theorem dX7_luck_57 : decode cX7_luck 57 = .ok (.ixor, 1) := dk_130 (dk_at dksX7_luck_2 10 rfl rfl)
theorem dX7_luck_58 : decode cX7_luck 58 = .ok (.iand, 1) := dk_126 (dk_at dksX7_luck_2 11 rfl rfl)
theorem dX7_luck_59 : decode cX7_luck 59 = .ok (.invokevirtual 455, 3) := dk_182 1 199 (dk_at dksX7_luck_2 12 rfl rfl)
theorem dX7_luck_62 : decode cX7_luck 62 = .ok (.ifCond .ne 7, 3) := dk_154 0 7 (dk_at dksX7_luck_2 15 rfl rfl)
theorem dX7_luck_65 : decode cX7_luck 65 = .ok (.iconst 1, 1) := dk_4 (dk_at dksX7_luck_2 18 rfl rfl)
theorem dX7_luck_66 : decode cX7_luck 66 = .ok (.goto 4, 3) := dk_167 0 4 (dk_at dksX7_luck_2 19 rfl rfl)
theorem dX7_luck_69 : decode cX7_luck 69 = .ok (.iconst 0, 1) := dk_3 (dk_at dksX7_luck_2 22 rfl rfl)
theorem dX7_luck_70 : decode cX7_luck 70 = .ok (.iadd, 1) := dk_96 (dk_at dksX7_luck_2 23 rfl rfl)
theorem dX7_luck_71 : decode cX7_luck 71 = .ok (.istore_n 3, 1) := dk_62 (dk_at dksX7_luck_3 0 rfl rfl)
theorem dX7_luck_72 : decode cX7_luck 72 = .ok (.iinc 4 1, 3) := dk_132 4 1 (dk_at dksX7_luck_3 1 rfl rfl)
theorem dX7_luck_75 : decode cX7_luck 75 = .ok (.goto (-41), 3) := dk_167 255 215 (dk_at dksX7_luck_3 4 rfl rfl)
theorem dX7_luck_78 : decode cX7_luck 78 = .ok (.iload_n 3, 1) := dk_29 (dk_at dksX7_luck_3 7 rfl rfl)
theorem dX7_luck_79 : decode cX7_luck 79 = .ok (.ireturn, 1) := dk_172 (dk_at dksX7_luck_3 8 rfl rfl)
abbrev cX7_rate : ByteArray := prog_22_method_163_code
def yX7_rate : MethodName := ⟨RX7, "rate", "(II)I"⟩
def dkwX7_rate_2 : List UInt8 := [180, 0, 9, 16, 8, 27, 96, 28, 79, 29, 172]
abbrev dktX7_rate_2 : List UInt8 := dkwX7_rate_2 ++ []
def dkwX7_rate_1 : List UInt8 := [180, 0, 9, 16, 6, 46, 158, 0, 6, 16, 251, 172, 42, 180, 0, 9, 16, 8, 27, 96, 46, 62, 42]
abbrev dktX7_rate_1 : List UInt8 := dkwX7_rate_1 ++ dktX7_rate_2
def dkwX7_rate_0 : List UInt8 := [42, 27, 182, 0, 252, 153, 0, 15, 28, 133, 9, 20, 0, 90, 184, 0, 76, 154, 0, 6, 16, 254, 172, 42]
abbrev dktX7_rate_0 : List UInt8 := dkwX7_rate_0 ++ dktX7_rate_1
theorem dksX7_rate_0 : cX7_rate.data.toList.drop 0 = dktX7_rate_0 := by decide +kernel
theorem dksX7_rate_1 : cX7_rate.data.toList.drop 24 = dktX7_rate_1 := dk_seg dksX7_rate_0 24 rfl rfl
theorem dksX7_rate_2 : cX7_rate.data.toList.drop 47 = dktX7_rate_2 := dk_seg dksX7_rate_1 23 rfl rfl
theorem dX7_rate_0 : decode cX7_rate 0 = .ok (.aload_n 0, 1) := dk_42 (dk_at dksX7_rate_0 0 rfl rfl)
theorem dX7_rate_1 : decode cX7_rate 1 = .ok (.iload_n 1, 1) := dk_27 (dk_at dksX7_rate_0 1 rfl rfl)
theorem dX7_rate_2 : decode cX7_rate 2 = .ok (.invokevirtual 252, 3) := dk_182 0 252 (dk_at dksX7_rate_0 2 rfl rfl)
theorem dX7_rate_5 : decode cX7_rate 5 = .ok (.ifCond .eq 15, 3) := dk_153 0 15 (dk_at dksX7_rate_0 5 rfl rfl)
theorem dX7_rate_8 : decode cX7_rate 8 = .ok (.iload_n 2, 1) := dk_28 (dk_at dksX7_rate_0 8 rfl rfl)
theorem dX7_rate_9 : decode cX7_rate 9 = .ok (.i2l, 1) := dk_133 (dk_at dksX7_rate_0 9 rfl rfl)
theorem dX7_rate_10 : decode cX7_rate 10 = .ok (.lconst 0, 1) := dk_9 (dk_at dksX7_rate_0 10 rfl rfl)
theorem dX7_rate_11 : decode cX7_rate 11 = .ok (.ldc2_w 90, 3) := dk_20 0 90 (dk_at dksX7_rate_0 11 rfl rfl)
theorem dX7_rate_14 : decode cX7_rate 14 = .ok (.invokestatic 76, 3) := dk_184 0 76 (dk_at dksX7_rate_0 14 rfl rfl)
theorem dX7_rate_17 : decode cX7_rate 17 = .ok (.ifCond .ne 6, 3) := dk_154 0 6 (dk_at dksX7_rate_0 17 rfl rfl)
theorem dX7_rate_20 : decode cX7_rate 20 = .ok (.bipush (-2), 2) := dk_16 254 (dk_at dksX7_rate_0 20 rfl rfl)
theorem dX7_rate_22 : decode cX7_rate 22 = .ok (.ireturn, 1) := dk_172 (dk_at dksX7_rate_0 22 rfl rfl)
theorem dX7_rate_23 : decode cX7_rate 23 = .ok (.aload_n 0, 1) := dk_42 (dk_at dksX7_rate_0 23 rfl rfl)
theorem dX7_rate_24 : decode cX7_rate 24 = .ok (.getfield 9, 3) := dk_180 0 9 (dk_at dksX7_rate_1 0 rfl rfl)
theorem dX7_rate_27 : decode cX7_rate 27 = .ok (.bipush 6, 2) := dk_16 6 (dk_at dksX7_rate_1 3 rfl rfl)
theorem dX7_rate_29 : decode cX7_rate 29 = .ok (.iaload, 1) := dk_46 (dk_at dksX7_rate_1 5 rfl rfl)
theorem dX7_rate_30 : decode cX7_rate 30 = .ok (.ifCond .le 6, 3) := dk_158 0 6 (dk_at dksX7_rate_1 6 rfl rfl)
theorem dX7_rate_33 : decode cX7_rate 33 = .ok (.bipush (-5), 2) := dk_16 251 (dk_at dksX7_rate_1 9 rfl rfl)
theorem dX7_rate_35 : decode cX7_rate 35 = .ok (.ireturn, 1) := dk_172 (dk_at dksX7_rate_1 11 rfl rfl)
theorem dX7_rate_36 : decode cX7_rate 36 = .ok (.aload_n 0, 1) := dk_42 (dk_at dksX7_rate_1 12 rfl rfl)
theorem dX7_rate_37 : decode cX7_rate 37 = .ok (.getfield 9, 3) := dk_180 0 9 (dk_at dksX7_rate_1 13 rfl rfl)
theorem dX7_rate_40 : decode cX7_rate 40 = .ok (.bipush 8, 2) := dk_16 8 (dk_at dksX7_rate_1 16 rfl rfl)
theorem dX7_rate_42 : decode cX7_rate 42 = .ok (.iload_n 1, 1) := dk_27 (dk_at dksX7_rate_1 18 rfl rfl)
theorem dX7_rate_43 : decode cX7_rate 43 = .ok (.iadd, 1) := dk_96 (dk_at dksX7_rate_1 19 rfl rfl)
theorem dX7_rate_44 : decode cX7_rate 44 = .ok (.iaload, 1) := dk_46 (dk_at dksX7_rate_1 20 rfl rfl)
theorem dX7_rate_45 : decode cX7_rate 45 = .ok (.istore_n 3, 1) := dk_62 (dk_at dksX7_rate_1 21 rfl rfl)
theorem dX7_rate_46 : decode cX7_rate 46 = .ok (.aload_n 0, 1) := dk_42 (dk_at dksX7_rate_1 22 rfl rfl)
theorem dX7_rate_47 : decode cX7_rate 47 = .ok (.getfield 9, 3) := dk_180 0 9 (dk_at dksX7_rate_2 0 rfl rfl)
theorem dX7_rate_50 : decode cX7_rate 50 = .ok (.bipush 8, 2) := dk_16 8 (dk_at dksX7_rate_2 3 rfl rfl)
theorem dX7_rate_52 : decode cX7_rate 52 = .ok (.iload_n 1, 1) := dk_27 (dk_at dksX7_rate_2 5 rfl rfl)
theorem dX7_rate_53 : decode cX7_rate 53 = .ok (.iadd, 1) := dk_96 (dk_at dksX7_rate_2 6 rfl rfl)
theorem dX7_rate_54 : decode cX7_rate 54 = .ok (.iload_n 2, 1) := dk_28 (dk_at dksX7_rate_2 7 rfl rfl)
theorem dX7_rate_55 : decode cX7_rate 55 = .ok (.iastore, 1) := dk_79 (dk_at dksX7_rate_2 8 rfl rfl)
theorem dX7_rate_56 : decode cX7_rate 56 = .ok (.iload_n 3, 1) := dk_29 (dk_at dksX7_rate_2 9 rfl rfl)
theorem dX7_rate_57 : decode cX7_rate 57 = .ok (.ireturn, 1) := dk_172 (dk_at dksX7_rate_2 10 rfl rfl)
abbrev cX7_count : ByteArray := prog_22_method_164_code
def yX7_count : MethodName := ⟨RX7, "count", "(I)I"⟩
def dkwX7_count_3 : List UInt8 := [167, 255, 230, 28, 172]
abbrev dktX7_count_3 : List UInt8 := dkwX7_count_3 ++ []
def dkwX7_count_2 : List UInt8 := [162, 0, 27, 28, 42, 180, 0, 58, 29, 46, 2, 160, 0, 7, 3, 167, 0, 4, 4, 96, 61, 132, 3, 1]
abbrev dktX7_count_2 : List UInt8 := dkwX7_count_2 ++ dktX7_count_3
def dkwX7_count_1 : List UInt8 := [160, 0, 8, 42, 180, 0, 99, 172, 27, 16, 9, 159, 0, 5, 2, 172, 3, 61, 3, 62, 29, 7]
abbrev dktX7_count_1 : List UInt8 := dkwX7_count_1 ++ dktX7_count_2
def dkwX7_count_0 : List UInt8 := [27, 133, 9, 20, 2, 11, 184, 0, 76, 153, 0, 10, 42, 180, 0, 9, 27, 46, 172, 27, 16, 8]
abbrev dktX7_count_0 : List UInt8 := dkwX7_count_0 ++ dktX7_count_1
theorem dksX7_count_0 : cX7_count.data.toList.drop 0 = dktX7_count_0 := by decide +kernel
theorem dksX7_count_1 : cX7_count.data.toList.drop 22 = dktX7_count_1 := dk_seg dksX7_count_0 22 rfl rfl
theorem dksX7_count_2 : cX7_count.data.toList.drop 44 = dktX7_count_2 := dk_seg dksX7_count_1 22 rfl rfl
theorem dksX7_count_3 : cX7_count.data.toList.drop 68 = dktX7_count_3 := dk_seg dksX7_count_2 24 rfl rfl
theorem dX7_count_0 : decode cX7_count 0 = .ok (.iload_n 1, 1) := dk_27 (dk_at dksX7_count_0 0 rfl rfl)
theorem dX7_count_1 : decode cX7_count 1 = .ok (.i2l, 1) := dk_133 (dk_at dksX7_count_0 1 rfl rfl)
theorem dX7_count_2 : decode cX7_count 2 = .ok (.lconst 0, 1) := dk_9 (dk_at dksX7_count_0 2 rfl rfl)
theorem dX7_count_3 : decode cX7_count 3 = .ok (.ldc2_w 523, 3) := dk_20 2 11 (dk_at dksX7_count_0 3 rfl rfl)
theorem dX7_count_6 : decode cX7_count 6 = .ok (.invokestatic 76, 3) := dk_184 0 76 (dk_at dksX7_count_0 6 rfl rfl)
theorem dX7_count_9 : decode cX7_count 9 = .ok (.ifCond .eq 10, 3) := dk_153 0 10 (dk_at dksX7_count_0 9 rfl rfl)
theorem dX7_count_12 : decode cX7_count 12 = .ok (.aload_n 0, 1) := dk_42 (dk_at dksX7_count_0 12 rfl rfl)
theorem dX7_count_13 : decode cX7_count 13 = .ok (.getfield 9, 3) := dk_180 0 9 (dk_at dksX7_count_0 13 rfl rfl)
theorem dX7_count_16 : decode cX7_count 16 = .ok (.iload_n 1, 1) := dk_27 (dk_at dksX7_count_0 16 rfl rfl)
theorem dX7_count_17 : decode cX7_count 17 = .ok (.iaload, 1) := dk_46 (dk_at dksX7_count_0 17 rfl rfl)
theorem dX7_count_18 : decode cX7_count 18 = .ok (.ireturn, 1) := dk_172 (dk_at dksX7_count_0 18 rfl rfl)
theorem dX7_count_19 : decode cX7_count 19 = .ok (.iload_n 1, 1) := dk_27 (dk_at dksX7_count_0 19 rfl rfl)
theorem dX7_count_20 : decode cX7_count 20 = .ok (.bipush 8, 2) := dk_16 8 (dk_at dksX7_count_0 20 rfl rfl)
theorem dX7_count_22 : decode cX7_count 22 = .ok (.if_icmp .ne 8, 3) := dk_160 0 8 (dk_at dksX7_count_1 0 rfl rfl)
theorem dX7_count_25 : decode cX7_count 25 = .ok (.aload_n 0, 1) := dk_42 (dk_at dksX7_count_1 3 rfl rfl)
theorem dX7_count_26 : decode cX7_count 26 = .ok (.getfield 99, 3) := dk_180 0 99 (dk_at dksX7_count_1 4 rfl rfl)
theorem dX7_count_29 : decode cX7_count 29 = .ok (.ireturn, 1) := dk_172 (dk_at dksX7_count_1 7 rfl rfl)
theorem dX7_count_30 : decode cX7_count 30 = .ok (.iload_n 1, 1) := dk_27 (dk_at dksX7_count_1 8 rfl rfl)
theorem dX7_count_31 : decode cX7_count 31 = .ok (.bipush 9, 2) := dk_16 9 (dk_at dksX7_count_1 9 rfl rfl)
theorem dX7_count_33 : decode cX7_count 33 = .ok (.if_icmp .eq 5, 3) := dk_159 0 5 (dk_at dksX7_count_1 11 rfl rfl)
theorem dX7_count_36 : decode cX7_count 36 = .ok (.iconst (-1), 1) := dk_2 (dk_at dksX7_count_1 14 rfl rfl)
theorem dX7_count_37 : decode cX7_count 37 = .ok (.ireturn, 1) := dk_172 (dk_at dksX7_count_1 15 rfl rfl)
theorem dX7_count_38 : decode cX7_count 38 = .ok (.iconst 0, 1) := dk_3 (dk_at dksX7_count_1 16 rfl rfl)
theorem dX7_count_39 : decode cX7_count 39 = .ok (.istore_n 2, 1) := dk_61 (dk_at dksX7_count_1 17 rfl rfl)
theorem dX7_count_40 : decode cX7_count 40 = .ok (.iconst 0, 1) := dk_3 (dk_at dksX7_count_1 18 rfl rfl)
theorem dX7_count_41 : decode cX7_count 41 = .ok (.istore_n 3, 1) := dk_62 (dk_at dksX7_count_1 19 rfl rfl)
theorem dX7_count_42 : decode cX7_count 42 = .ok (.iload_n 3, 1) := dk_29 (dk_at dksX7_count_1 20 rfl rfl)
theorem dX7_count_43 : decode cX7_count 43 = .ok (.iconst 4, 1) := dk_7 (dk_at dksX7_count_1 21 rfl rfl)
theorem dX7_count_44 : decode cX7_count 44 = .ok (.if_icmp .ge 27, 3) := dk_162 0 27 (dk_at dksX7_count_2 0 rfl rfl)
theorem dX7_count_47 : decode cX7_count 47 = .ok (.iload_n 2, 1) := dk_28 (dk_at dksX7_count_2 3 rfl rfl)
theorem dX7_count_48 : decode cX7_count 48 = .ok (.aload_n 0, 1) := dk_42 (dk_at dksX7_count_2 4 rfl rfl)
theorem dX7_count_49 : decode cX7_count 49 = .ok (.getfield 58, 3) := dk_180 0 58 (dk_at dksX7_count_2 5 rfl rfl)
theorem dX7_count_52 : decode cX7_count 52 = .ok (.iload_n 3, 1) := dk_29 (dk_at dksX7_count_2 8 rfl rfl)
theorem dX7_count_53 : decode cX7_count 53 = .ok (.iaload, 1) := dk_46 (dk_at dksX7_count_2 9 rfl rfl)
theorem dX7_count_54 : decode cX7_count 54 = .ok (.iconst (-1), 1) := dk_2 (dk_at dksX7_count_2 10 rfl rfl)
theorem dX7_count_55 : decode cX7_count 55 = .ok (.if_icmp .ne 7, 3) := dk_160 0 7 (dk_at dksX7_count_2 11 rfl rfl)
theorem dX7_count_58 : decode cX7_count 58 = .ok (.iconst 0, 1) := dk_3 (dk_at dksX7_count_2 14 rfl rfl)
theorem dX7_count_59 : decode cX7_count 59 = .ok (.goto 4, 3) := dk_167 0 4 (dk_at dksX7_count_2 15 rfl rfl)
theorem dX7_count_62 : decode cX7_count 62 = .ok (.iconst 1, 1) := dk_4 (dk_at dksX7_count_2 18 rfl rfl)
theorem dX7_count_63 : decode cX7_count 63 = .ok (.iadd, 1) := dk_96 (dk_at dksX7_count_2 19 rfl rfl)
theorem dX7_count_64 : decode cX7_count 64 = .ok (.istore_n 2, 1) := dk_61 (dk_at dksX7_count_2 20 rfl rfl)
theorem dX7_count_65 : decode cX7_count 65 = .ok (.iinc 3 1, 3) := dk_132 3 1 (dk_at dksX7_count_2 21 rfl rfl)
theorem dX7_count_68 : decode cX7_count 68 = .ok (.goto (-26), 3) := dk_167 255 230 (dk_at dksX7_count_3 0 rfl rfl)
theorem dX7_count_71 : decode cX7_count 71 = .ok (.iload_n 2, 1) := dk_28 (dk_at dksX7_count_3 3 rfl rfl)
theorem dX7_count_72 : decode cX7_count 72 = .ok (.ireturn, 1) := dk_172 (dk_at dksX7_count_3 4 rfl rfl)
abbrev cX7_row : ByteArray := prog_22_method_167_code
def yX7_row : MethodName := ⟨RX7, "row", "(III)I"⟩
def dkwX7_row_3 : List UInt8 := [9, 80, 132, 4, 1, 167, 255, 233, 3, 172]
abbrev dktX7_row_3 : List UInt8 := dkwX7_row_3 ++ []
def dkwX7_row_2 : List UInt8 := [27, 28, 79, 3, 54, 4, 21, 4, 16, 60, 162, 0, 22, 42, 180, 0, 64, 16, 60, 27, 104, 21, 4, 96]
abbrev dktX7_row_2 : List UInt8 := dkwX7_row_2 ++ dktX7_row_3
def dkwX7_row_1 : List UInt8 := [164, 0, 6, 16, 254, 172, 29, 156, 0, 6, 16, 253, 172, 42, 180, 0, 58, 27, 29, 79, 42, 180, 0, 61]
abbrev dktX7_row_1 : List UInt8 := dkwX7_row_1 ++ dktX7_row_2
def dkwX7_row_0 : List UInt8 := [27, 184, 1, 174, 153, 0, 21, 28, 133, 9, 20, 0, 90, 184, 0, 76, 153, 0, 9, 29, 16, 60]
abbrev dktX7_row_0 : List UInt8 := dkwX7_row_0 ++ dktX7_row_1
theorem dksX7_row_0 : cX7_row.data.toList.drop 0 = dktX7_row_0 := by decide +kernel
theorem dksX7_row_1 : cX7_row.data.toList.drop 22 = dktX7_row_1 := dk_seg dksX7_row_0 22 rfl rfl
theorem dksX7_row_2 : cX7_row.data.toList.drop 46 = dktX7_row_2 := dk_seg dksX7_row_1 24 rfl rfl
theorem dksX7_row_3 : cX7_row.data.toList.drop 70 = dktX7_row_3 := dk_seg dksX7_row_2 24 rfl rfl
theorem dX7_row_0 : decode cX7_row 0 = .ok (.iload_n 1, 1) := dk_27 (dk_at dksX7_row_0 0 rfl rfl)
theorem dX7_row_1 : decode cX7_row 1 = .ok (.invokestatic 430, 3) := dk_184 1 174 (dk_at dksX7_row_0 1 rfl rfl)
theorem dX7_row_4 : decode cX7_row 4 = .ok (.ifCond .eq 21, 3) := dk_153 0 21 (dk_at dksX7_row_0 4 rfl rfl)
theorem dX7_row_7 : decode cX7_row 7 = .ok (.iload_n 2, 1) := dk_28 (dk_at dksX7_row_0 7 rfl rfl)
theorem dX7_row_8 : decode cX7_row 8 = .ok (.i2l, 1) := dk_133 (dk_at dksX7_row_0 8 rfl rfl)
theorem dX7_row_9 : decode cX7_row 9 = .ok (.lconst 0, 1) := dk_9 (dk_at dksX7_row_0 9 rfl rfl)
theorem dX7_row_10 : decode cX7_row 10 = .ok (.ldc2_w 90, 3) := dk_20 0 90 (dk_at dksX7_row_0 10 rfl rfl)
theorem dX7_row_13 : decode cX7_row 13 = .ok (.invokestatic 76, 3) := dk_184 0 76 (dk_at dksX7_row_0 13 rfl rfl)
theorem dX7_row_16 : decode cX7_row 16 = .ok (.ifCond .eq 9, 3) := dk_153 0 9 (dk_at dksX7_row_0 16 rfl rfl)
theorem dX7_row_19 : decode cX7_row 19 = .ok (.iload_n 3, 1) := dk_29 (dk_at dksX7_row_0 19 rfl rfl)
theorem dX7_row_20 : decode cX7_row 20 = .ok (.bipush 60, 2) := dk_16 60 (dk_at dksX7_row_0 20 rfl rfl)
theorem dX7_row_22 : decode cX7_row 22 = .ok (.if_icmp .le 6, 3) := dk_164 0 6 (dk_at dksX7_row_1 0 rfl rfl)
theorem dX7_row_25 : decode cX7_row 25 = .ok (.bipush (-2), 2) := dk_16 254 (dk_at dksX7_row_1 3 rfl rfl)
theorem dX7_row_27 : decode cX7_row 27 = .ok (.ireturn, 1) := dk_172 (dk_at dksX7_row_1 5 rfl rfl)
theorem dX7_row_28 : decode cX7_row 28 = .ok (.iload_n 3, 1) := dk_29 (dk_at dksX7_row_1 6 rfl rfl)
theorem dX7_row_29 : decode cX7_row 29 = .ok (.ifCond .ge 6, 3) := dk_156 0 6 (dk_at dksX7_row_1 7 rfl rfl)
theorem dX7_row_32 : decode cX7_row 32 = .ok (.bipush (-3), 2) := dk_16 253 (dk_at dksX7_row_1 10 rfl rfl)
theorem dX7_row_34 : decode cX7_row 34 = .ok (.ireturn, 1) := dk_172 (dk_at dksX7_row_1 12 rfl rfl)
theorem dX7_row_35 : decode cX7_row 35 = .ok (.aload_n 0, 1) := dk_42 (dk_at dksX7_row_1 13 rfl rfl)
theorem dX7_row_36 : decode cX7_row 36 = .ok (.getfield 58, 3) := dk_180 0 58 (dk_at dksX7_row_1 14 rfl rfl)
theorem dX7_row_39 : decode cX7_row 39 = .ok (.iload_n 1, 1) := dk_27 (dk_at dksX7_row_1 17 rfl rfl)
theorem dX7_row_40 : decode cX7_row 40 = .ok (.iload_n 3, 1) := dk_29 (dk_at dksX7_row_1 18 rfl rfl)
theorem dX7_row_41 : decode cX7_row 41 = .ok (.iastore, 1) := dk_79 (dk_at dksX7_row_1 19 rfl rfl)
theorem dX7_row_42 : decode cX7_row 42 = .ok (.aload_n 0, 1) := dk_42 (dk_at dksX7_row_1 20 rfl rfl)
theorem dX7_row_43 : decode cX7_row 43 = .ok (.getfield 61, 3) := dk_180 0 61 (dk_at dksX7_row_1 21 rfl rfl)
theorem dX7_row_46 : decode cX7_row 46 = .ok (.iload_n 1, 1) := dk_27 (dk_at dksX7_row_2 0 rfl rfl)
theorem dX7_row_47 : decode cX7_row 47 = .ok (.iload_n 2, 1) := dk_28 (dk_at dksX7_row_2 1 rfl rfl)
theorem dX7_row_48 : decode cX7_row 48 = .ok (.iastore, 1) := dk_79 (dk_at dksX7_row_2 2 rfl rfl)
theorem dX7_row_49 : decode cX7_row 49 = .ok (.iconst 0, 1) := dk_3 (dk_at dksX7_row_2 3 rfl rfl)
theorem dX7_row_50 : decode cX7_row 50 = .ok (.istore 4, 2) := dk_54 4 (dk_at dksX7_row_2 4 rfl rfl)
theorem dX7_row_52 : decode cX7_row 52 = .ok (.iload 4, 2) := dk_21 4 (dk_at dksX7_row_2 6 rfl rfl)
theorem dX7_row_54 : decode cX7_row 54 = .ok (.bipush 60, 2) := dk_16 60 (dk_at dksX7_row_2 8 rfl rfl)
theorem dX7_row_56 : decode cX7_row 56 = .ok (.if_icmp .ge 22, 3) := dk_162 0 22 (dk_at dksX7_row_2 10 rfl rfl)
theorem dX7_row_59 : decode cX7_row 59 = .ok (.aload_n 0, 1) := dk_42 (dk_at dksX7_row_2 13 rfl rfl)
theorem dX7_row_60 : decode cX7_row 60 = .ok (.getfield 64, 3) := dk_180 0 64 (dk_at dksX7_row_2 14 rfl rfl)
theorem dX7_row_63 : decode cX7_row 63 = .ok (.bipush 60, 2) := dk_16 60 (dk_at dksX7_row_2 17 rfl rfl)
theorem dX7_row_65 : decode cX7_row 65 = .ok (.iload_n 1, 1) := dk_27 (dk_at dksX7_row_2 19 rfl rfl)
theorem dX7_row_66 : decode cX7_row 66 = .ok (.imul, 1) := dk_104 (dk_at dksX7_row_2 20 rfl rfl)
theorem dX7_row_67 : decode cX7_row 67 = .ok (.iload 4, 2) := dk_21 4 (dk_at dksX7_row_2 21 rfl rfl)
theorem dX7_row_69 : decode cX7_row 69 = .ok (.iadd, 1) := dk_96 (dk_at dksX7_row_2 23 rfl rfl)
theorem dX7_row_70 : decode cX7_row 70 = .ok (.lconst 0, 1) := dk_9 (dk_at dksX7_row_3 0 rfl rfl)
theorem dX7_row_71 : decode cX7_row 71 = .ok (.lastore, 1) := dk_80 (dk_at dksX7_row_3 1 rfl rfl)
theorem dX7_row_72 : decode cX7_row 72 = .ok (.iinc 4 1, 3) := dk_132 4 1 (dk_at dksX7_row_3 2 rfl rfl)
theorem dX7_row_75 : decode cX7_row 75 = .ok (.goto (-23), 3) := dk_167 255 233 (dk_at dksX7_row_3 5 rfl rfl)
theorem dX7_row_78 : decode cX7_row 78 = .ok (.iconst 0, 1) := dk_3 (dk_at dksX7_row_3 8 rfl rfl)
theorem dX7_row_79 : decode cX7_row 79 = .ok (.ireturn, 1) := dk_172 (dk_at dksX7_row_3 9 rfl rfl)
abbrev cX7_write : ByteArray := prog_22_method_168_code
def yX7_write : MethodName := ⟨RX7, "write", "(IIJ)I"⟩
def dkwX7_write_2 : List UInt8 := [16, 60, 27, 104, 28, 96, 33, 42, 180, 0, 61, 27, 46, 184, 2, 13, 80, 3, 172]
abbrev dktX7_write_2 : List UInt8 := dkwX7_write_2 ++ []
def dkwX7_write_1 : List UInt8 := [133, 9, 42, 180, 0, 58, 27, 46, 4, 100, 133, 184, 0, 76, 154, 0, 6, 16, 249, 172, 42, 180, 0, 64]
abbrev dktX7_write_1 : List UInt8 := dkwX7_write_1 ++ dktX7_write_2
def dkwX7_write_0 : List UInt8 := [27, 184, 1, 174, 154, 0, 6, 16, 254, 172, 42, 180, 0, 58, 27, 46, 2, 160, 0, 6, 16, 250, 172, 28]
abbrev dktX7_write_0 : List UInt8 := dkwX7_write_0 ++ dktX7_write_1
theorem dksX7_write_0 : cX7_write.data.toList.drop 0 = dktX7_write_0 := by decide +kernel
theorem dksX7_write_1 : cX7_write.data.toList.drop 24 = dktX7_write_1 := dk_seg dksX7_write_0 24 rfl rfl
theorem dksX7_write_2 : cX7_write.data.toList.drop 48 = dktX7_write_2 := dk_seg dksX7_write_1 24 rfl rfl
theorem dX7_write_0 : decode cX7_write 0 = .ok (.iload_n 1, 1) := dk_27 (dk_at dksX7_write_0 0 rfl rfl)
theorem dX7_write_1 : decode cX7_write 1 = .ok (.invokestatic 430, 3) := dk_184 1 174 (dk_at dksX7_write_0 1 rfl rfl)
theorem dX7_write_4 : decode cX7_write 4 = .ok (.ifCond .ne 6, 3) := dk_154 0 6 (dk_at dksX7_write_0 4 rfl rfl)
theorem dX7_write_7 : decode cX7_write 7 = .ok (.bipush (-2), 2) := dk_16 254 (dk_at dksX7_write_0 7 rfl rfl)
theorem dX7_write_9 : decode cX7_write 9 = .ok (.ireturn, 1) := dk_172 (dk_at dksX7_write_0 9 rfl rfl)
theorem dX7_write_10 : decode cX7_write 10 = .ok (.aload_n 0, 1) := dk_42 (dk_at dksX7_write_0 10 rfl rfl)
theorem dX7_write_11 : decode cX7_write 11 = .ok (.getfield 58, 3) := dk_180 0 58 (dk_at dksX7_write_0 11 rfl rfl)
theorem dX7_write_14 : decode cX7_write 14 = .ok (.iload_n 1, 1) := dk_27 (dk_at dksX7_write_0 14 rfl rfl)
theorem dX7_write_15 : decode cX7_write 15 = .ok (.iaload, 1) := dk_46 (dk_at dksX7_write_0 15 rfl rfl)
theorem dX7_write_16 : decode cX7_write 16 = .ok (.iconst (-1), 1) := dk_2 (dk_at dksX7_write_0 16 rfl rfl)
theorem dX7_write_17 : decode cX7_write 17 = .ok (.if_icmp .ne 6, 3) := dk_160 0 6 (dk_at dksX7_write_0 17 rfl rfl)
theorem dX7_write_20 : decode cX7_write 20 = .ok (.bipush (-6), 2) := dk_16 250 (dk_at dksX7_write_0 20 rfl rfl)
theorem dX7_write_22 : decode cX7_write 22 = .ok (.ireturn, 1) := dk_172 (dk_at dksX7_write_0 22 rfl rfl)
theorem dX7_write_23 : decode cX7_write 23 = .ok (.iload_n 2, 1) := dk_28 (dk_at dksX7_write_0 23 rfl rfl)
theorem dX7_write_24 : decode cX7_write 24 = .ok (.i2l, 1) := dk_133 (dk_at dksX7_write_1 0 rfl rfl)
theorem dX7_write_25 : decode cX7_write 25 = .ok (.lconst 0, 1) := dk_9 (dk_at dksX7_write_1 1 rfl rfl)
theorem dX7_write_26 : decode cX7_write 26 = .ok (.aload_n 0, 1) := dk_42 (dk_at dksX7_write_1 2 rfl rfl)
theorem dX7_write_27 : decode cX7_write 27 = .ok (.getfield 58, 3) := dk_180 0 58 (dk_at dksX7_write_1 3 rfl rfl)
theorem dX7_write_30 : decode cX7_write 30 = .ok (.iload_n 1, 1) := dk_27 (dk_at dksX7_write_1 6 rfl rfl)
theorem dX7_write_31 : decode cX7_write 31 = .ok (.iaload, 1) := dk_46 (dk_at dksX7_write_1 7 rfl rfl)
theorem dX7_write_32 : decode cX7_write 32 = .ok (.iconst 1, 1) := dk_4 (dk_at dksX7_write_1 8 rfl rfl)
theorem dX7_write_33 : decode cX7_write 33 = .ok (.isub, 1) := dk_100 (dk_at dksX7_write_1 9 rfl rfl)
theorem dX7_write_34 : decode cX7_write 34 = .ok (.i2l, 1) := dk_133 (dk_at dksX7_write_1 10 rfl rfl)
theorem dX7_write_35 : decode cX7_write 35 = .ok (.invokestatic 76, 3) := dk_184 0 76 (dk_at dksX7_write_1 11 rfl rfl)
theorem dX7_write_38 : decode cX7_write 38 = .ok (.ifCond .ne 6, 3) := dk_154 0 6 (dk_at dksX7_write_1 14 rfl rfl)
theorem dX7_write_41 : decode cX7_write 41 = .ok (.bipush (-7), 2) := dk_16 249 (dk_at dksX7_write_1 17 rfl rfl)
theorem dX7_write_43 : decode cX7_write 43 = .ok (.ireturn, 1) := dk_172 (dk_at dksX7_write_1 19 rfl rfl)
theorem dX7_write_44 : decode cX7_write 44 = .ok (.aload_n 0, 1) := dk_42 (dk_at dksX7_write_1 20 rfl rfl)
theorem dX7_write_45 : decode cX7_write 45 = .ok (.getfield 64, 3) := dk_180 0 64 (dk_at dksX7_write_1 21 rfl rfl)
theorem dX7_write_48 : decode cX7_write 48 = .ok (.bipush 60, 2) := dk_16 60 (dk_at dksX7_write_2 0 rfl rfl)
theorem dX7_write_50 : decode cX7_write 50 = .ok (.iload_n 1, 1) := dk_27 (dk_at dksX7_write_2 2 rfl rfl)
theorem dX7_write_51 : decode cX7_write 51 = .ok (.imul, 1) := dk_104 (dk_at dksX7_write_2 3 rfl rfl)
theorem dX7_write_52 : decode cX7_write 52 = .ok (.iload_n 2, 1) := dk_28 (dk_at dksX7_write_2 4 rfl rfl)
theorem dX7_write_53 : decode cX7_write 53 = .ok (.iadd, 1) := dk_96 (dk_at dksX7_write_2 5 rfl rfl)
theorem dX7_write_54 : decode cX7_write 54 = .ok (.lload_n 3, 1) := dk_33 (dk_at dksX7_write_2 6 rfl rfl)
theorem dX7_write_55 : decode cX7_write 55 = .ok (.aload_n 0, 1) := dk_42 (dk_at dksX7_write_2 7 rfl rfl)
theorem dX7_write_56 : decode cX7_write 56 = .ok (.getfield 61, 3) := dk_180 0 61 (dk_at dksX7_write_2 8 rfl rfl)
theorem dX7_write_59 : decode cX7_write 59 = .ok (.iload_n 1, 1) := dk_27 (dk_at dksX7_write_2 11 rfl rfl)
theorem dX7_write_60 : decode cX7_write 60 = .ok (.iaload, 1) := dk_46 (dk_at dksX7_write_2 12 rfl rfl)
theorem dX7_write_61 : decode cX7_write 61 = .ok (.invokestatic 525, 3) := dk_184 2 13 (dk_at dksX7_write_2 13 rfl rfl)
theorem dX7_write_64 : decode cX7_write 64 = .ok (.lastore, 1) := dk_80 (dk_at dksX7_write_2 16 rfl rfl)
theorem dX7_write_65 : decode cX7_write 65 = .ok (.iconst 0, 1) := dk_3 (dk_at dksX7_write_2 17 rfl rfl)
theorem dX7_write_66 : decode cX7_write 66 = .ok (.ireturn, 1) := dk_172 (dk_at dksX7_write_2 18 rfl rfl)
abbrev cX7_clipped : ByteArray := prog_22_method_166_code
def yX7_clipped : MethodName := ⟨RX7, "clipped", "(JI)J"⟩
def dkwX7_clipped_0 : List UInt8 := [16, 64, 16, 8, 28, 120, 100, 62, 30, 29, 121, 29, 123, 173]
abbrev dktX7_clipped_0 : List UInt8 := dkwX7_clipped_0 ++ []
theorem dksX7_clipped_0 : cX7_clipped.data.toList.drop 0 = dktX7_clipped_0 := by decide +kernel
theorem dX7_clipped_0 : decode cX7_clipped 0 = .ok (.bipush 64, 2) := dk_16 64 (dk_at dksX7_clipped_0 0 rfl rfl)
theorem dX7_clipped_2 : decode cX7_clipped 2 = .ok (.bipush 8, 2) := dk_16 8 (dk_at dksX7_clipped_0 2 rfl rfl)
theorem dX7_clipped_4 : decode cX7_clipped 4 = .ok (.iload_n 2, 1) := dk_28 (dk_at dksX7_clipped_0 4 rfl rfl)
theorem dX7_clipped_5 : decode cX7_clipped 5 = .ok (.ishl, 1) := dk_120 (dk_at dksX7_clipped_0 5 rfl rfl)
theorem dX7_clipped_6 : decode cX7_clipped 6 = .ok (.isub, 1) := dk_100 (dk_at dksX7_clipped_0 6 rfl rfl)
theorem dX7_clipped_7 : decode cX7_clipped 7 = .ok (.istore_n 3, 1) := dk_62 (dk_at dksX7_clipped_0 7 rfl rfl)
theorem dX7_clipped_8 : decode cX7_clipped 8 = .ok (.lload_n 0, 1) := dk_30 (dk_at dksX7_clipped_0 8 rfl rfl)
theorem dX7_clipped_9 : decode cX7_clipped 9 = .ok (.iload_n 3, 1) := dk_29 (dk_at dksX7_clipped_0 9 rfl rfl)
theorem dX7_clipped_10 : decode cX7_clipped 10 = .ok (.lshl, 1) := dk_121 (dk_at dksX7_clipped_0 10 rfl rfl)
theorem dX7_clipped_11 : decode cX7_clipped 11 = .ok (.iload_n 3, 1) := dk_29 (dk_at dksX7_clipped_0 11 rfl rfl)
theorem dX7_clipped_12 : decode cX7_clipped 12 = .ok (.lshr, 1) := dk_123 (dk_at dksX7_clipped_0 12 rfl rfl)
theorem dX7_clipped_13 : decode cX7_clipped 13 = .ok (.lreturn, 1) := dk_173 (dk_at dksX7_clipped_0 13 rfl rfl)
abbrev cX7_paste : ByteArray := prog_22_method_169_code
def yX7_paste : MethodName := ⟨RX7, "paste", "(IIIII)I"⟩
def dkwX7_paste_7 : List UInt8 := [29, 104, 21, 4, 96, 21, 6, 96, 42, 180, 0, 68, 21, 6, 47, 80, 132, 6, 1, 167, 255, 224, 3, 172]
abbrev dktX7_paste_7 : List UInt8 := dkwX7_paste_7 ++ []
def dkwX7_paste_6 : List UInt8 := [47, 80, 132, 6, 1, 167, 255, 225, 3, 54, 6, 21, 6, 21, 5, 162, 0, 31, 42, 180, 0, 64, 16, 60]
abbrev dktX7_paste_6 : List UInt8 := dkwX7_paste_6 ++ dktX7_paste_7
def dkwX7_paste_5 : List UInt8 := [21, 5, 162, 0, 30, 42, 180, 0, 68, 21, 6, 42, 180, 0, 64, 16, 60, 27, 104, 28, 96, 21, 6, 96]
abbrev dktX7_paste_5 : List UInt8 := dkwX7_paste_5 ++ dktX7_paste_6
def dkwX7_paste_4 : List UInt8 := [21, 5, 133, 97, 42, 180, 0, 58, 29, 46, 133, 148, 158, 0, 6, 16, 249, 172, 3, 54, 6, 21, 6]
abbrev dktX7_paste_4 : List UInt8 := dkwX7_paste_4 ++ dktX7_paste_5
def dkwX7_paste_3 : List UInt8 := [155, 0, 38, 28, 133, 21, 5, 133, 97, 42, 180, 0, 58, 27, 46, 133, 148, 157, 0, 21, 21, 4, 133]
abbrev dktX7_paste_3 : List UInt8 := dkwX7_paste_3 ++ dktX7_paste_4
def dkwX7_paste_2 : List UInt8 := [180, 0, 61, 29, 46, 159, 0, 6, 16, 248, 172, 28, 155, 0, 48, 21, 4, 155, 0, 43, 21, 5]
abbrev dktX7_paste_2 : List UInt8 := dkwX7_paste_2 ++ dktX7_paste_3
def dkwX7_paste_1 : List UInt8 := [159, 0, 13, 42, 180, 0, 58, 29, 46, 2, 160, 0, 6, 16, 250, 172, 42, 180, 0, 61, 27, 46, 42]
abbrev dktX7_paste_1 : List UInt8 := dkwX7_paste_1 ++ dktX7_paste_2
def dkwX7_paste_0 : List UInt8 := [27, 184, 1, 174, 153, 0, 10, 29, 184, 1, 174, 154, 0, 6, 16, 254, 172, 42, 180, 0, 58, 27, 46, 2]
abbrev dktX7_paste_0 : List UInt8 := dkwX7_paste_0 ++ dktX7_paste_1
theorem dksX7_paste_0 : cX7_paste.data.toList.drop 0 = dktX7_paste_0 := by decide +kernel
theorem dksX7_paste_1 : cX7_paste.data.toList.drop 24 = dktX7_paste_1 := dk_seg dksX7_paste_0 24 rfl rfl
theorem dksX7_paste_2 : cX7_paste.data.toList.drop 47 = dktX7_paste_2 := dk_seg dksX7_paste_1 23 rfl rfl
theorem dksX7_paste_3 : cX7_paste.data.toList.drop 69 = dktX7_paste_3 := dk_seg dksX7_paste_2 22 rfl rfl
theorem dksX7_paste_4 : cX7_paste.data.toList.drop 92 = dktX7_paste_4 := dk_seg dksX7_paste_3 23 rfl rfl
theorem dksX7_paste_5 : cX7_paste.data.toList.drop 115 = dktX7_paste_5 := dk_seg dksX7_paste_4 23 rfl rfl
theorem dksX7_paste_6 : cX7_paste.data.toList.drop 139 = dktX7_paste_6 := dk_seg dksX7_paste_5 24 rfl rfl
theorem dksX7_paste_7 : cX7_paste.data.toList.drop 163 = dktX7_paste_7 := dk_seg dksX7_paste_6 24 rfl rfl
theorem dX7_paste_0 : decode cX7_paste 0 = .ok (.iload_n 1, 1) := dk_27 (dk_at dksX7_paste_0 0 rfl rfl)
theorem dX7_paste_1 : decode cX7_paste 1 = .ok (.invokestatic 430, 3) := dk_184 1 174 (dk_at dksX7_paste_0 1 rfl rfl)
theorem dX7_paste_4 : decode cX7_paste 4 = .ok (.ifCond .eq 10, 3) := dk_153 0 10 (dk_at dksX7_paste_0 4 rfl rfl)
theorem dX7_paste_7 : decode cX7_paste 7 = .ok (.iload_n 3, 1) := dk_29 (dk_at dksX7_paste_0 7 rfl rfl)
theorem dX7_paste_8 : decode cX7_paste 8 = .ok (.invokestatic 430, 3) := dk_184 1 174 (dk_at dksX7_paste_0 8 rfl rfl)
theorem dX7_paste_11 : decode cX7_paste 11 = .ok (.ifCond .ne 6, 3) := dk_154 0 6 (dk_at dksX7_paste_0 11 rfl rfl)
theorem dX7_paste_14 : decode cX7_paste 14 = .ok (.bipush (-2), 2) := dk_16 254 (dk_at dksX7_paste_0 14 rfl rfl)
theorem dX7_paste_16 : decode cX7_paste 16 = .ok (.ireturn, 1) := dk_172 (dk_at dksX7_paste_0 16 rfl rfl)
theorem dX7_paste_17 : decode cX7_paste 17 = .ok (.aload_n 0, 1) := dk_42 (dk_at dksX7_paste_0 17 rfl rfl)
theorem dX7_paste_18 : decode cX7_paste 18 = .ok (.getfield 58, 3) := dk_180 0 58 (dk_at dksX7_paste_0 18 rfl rfl)
theorem dX7_paste_21 : decode cX7_paste 21 = .ok (.iload_n 1, 1) := dk_27 (dk_at dksX7_paste_0 21 rfl rfl)
theorem dX7_paste_22 : decode cX7_paste 22 = .ok (.iaload, 1) := dk_46 (dk_at dksX7_paste_0 22 rfl rfl)
theorem dX7_paste_23 : decode cX7_paste 23 = .ok (.iconst (-1), 1) := dk_2 (dk_at dksX7_paste_0 23 rfl rfl)
theorem dX7_paste_24 : decode cX7_paste 24 = .ok (.if_icmp .eq 13, 3) := dk_159 0 13 (dk_at dksX7_paste_1 0 rfl rfl)
theorem dX7_paste_27 : decode cX7_paste 27 = .ok (.aload_n 0, 1) := dk_42 (dk_at dksX7_paste_1 3 rfl rfl)
theorem dX7_paste_28 : decode cX7_paste 28 = .ok (.getfield 58, 3) := dk_180 0 58 (dk_at dksX7_paste_1 4 rfl rfl)
theorem dX7_paste_31 : decode cX7_paste 31 = .ok (.iload_n 3, 1) := dk_29 (dk_at dksX7_paste_1 7 rfl rfl)
theorem dX7_paste_32 : decode cX7_paste 32 = .ok (.iaload, 1) := dk_46 (dk_at dksX7_paste_1 8 rfl rfl)
theorem dX7_paste_33 : decode cX7_paste 33 = .ok (.iconst (-1), 1) := dk_2 (dk_at dksX7_paste_1 9 rfl rfl)
theorem dX7_paste_34 : decode cX7_paste 34 = .ok (.if_icmp .ne 6, 3) := dk_160 0 6 (dk_at dksX7_paste_1 10 rfl rfl)
theorem dX7_paste_37 : decode cX7_paste 37 = .ok (.bipush (-6), 2) := dk_16 250 (dk_at dksX7_paste_1 13 rfl rfl)
theorem dX7_paste_39 : decode cX7_paste 39 = .ok (.ireturn, 1) := dk_172 (dk_at dksX7_paste_1 15 rfl rfl)
theorem dX7_paste_40 : decode cX7_paste 40 = .ok (.aload_n 0, 1) := dk_42 (dk_at dksX7_paste_1 16 rfl rfl)
theorem dX7_paste_41 : decode cX7_paste 41 = .ok (.getfield 61, 3) := dk_180 0 61 (dk_at dksX7_paste_1 17 rfl rfl)
theorem dX7_paste_44 : decode cX7_paste 44 = .ok (.iload_n 1, 1) := dk_27 (dk_at dksX7_paste_1 20 rfl rfl)
theorem dX7_paste_45 : decode cX7_paste 45 = .ok (.iaload, 1) := dk_46 (dk_at dksX7_paste_1 21 rfl rfl)
theorem dX7_paste_46 : decode cX7_paste 46 = .ok (.aload_n 0, 1) := dk_42 (dk_at dksX7_paste_1 22 rfl rfl)
theorem dX7_paste_47 : decode cX7_paste 47 = .ok (.getfield 61, 3) := dk_180 0 61 (dk_at dksX7_paste_2 0 rfl rfl)
theorem dX7_paste_50 : decode cX7_paste 50 = .ok (.iload_n 3, 1) := dk_29 (dk_at dksX7_paste_2 3 rfl rfl)
theorem dX7_paste_51 : decode cX7_paste 51 = .ok (.iaload, 1) := dk_46 (dk_at dksX7_paste_2 4 rfl rfl)
theorem dX7_paste_52 : decode cX7_paste 52 = .ok (.if_icmp .eq 6, 3) := dk_159 0 6 (dk_at dksX7_paste_2 5 rfl rfl)
theorem dX7_paste_55 : decode cX7_paste 55 = .ok (.bipush (-8), 2) := dk_16 248 (dk_at dksX7_paste_2 8 rfl rfl)
theorem dX7_paste_57 : decode cX7_paste 57 = .ok (.ireturn, 1) := dk_172 (dk_at dksX7_paste_2 10 rfl rfl)
theorem dX7_paste_58 : decode cX7_paste 58 = .ok (.iload_n 2, 1) := dk_28 (dk_at dksX7_paste_2 11 rfl rfl)
theorem dX7_paste_59 : decode cX7_paste 59 = .ok (.ifCond .lt 48, 3) := dk_155 0 48 (dk_at dksX7_paste_2 12 rfl rfl)
theorem dX7_paste_62 : decode cX7_paste 62 = .ok (.iload 4, 2) := dk_21 4 (dk_at dksX7_paste_2 15 rfl rfl)
theorem dX7_paste_64 : decode cX7_paste 64 = .ok (.ifCond .lt 43, 3) := dk_155 0 43 (dk_at dksX7_paste_2 17 rfl rfl)
theorem dX7_paste_67 : decode cX7_paste 67 = .ok (.iload 5, 2) := dk_21 5 (dk_at dksX7_paste_2 20 rfl rfl)
theorem dX7_paste_69 : decode cX7_paste 69 = .ok (.ifCond .lt 38, 3) := dk_155 0 38 (dk_at dksX7_paste_3 0 rfl rfl)
theorem dX7_paste_72 : decode cX7_paste 72 = .ok (.iload_n 2, 1) := dk_28 (dk_at dksX7_paste_3 3 rfl rfl)
theorem dX7_paste_73 : decode cX7_paste 73 = .ok (.i2l, 1) := dk_133 (dk_at dksX7_paste_3 4 rfl rfl)
theorem dX7_paste_74 : decode cX7_paste 74 = .ok (.iload 5, 2) := dk_21 5 (dk_at dksX7_paste_3 5 rfl rfl)
theorem dX7_paste_76 : decode cX7_paste 76 = .ok (.i2l, 1) := dk_133 (dk_at dksX7_paste_3 7 rfl rfl)
theorem dX7_paste_77 : decode cX7_paste 77 = .ok (.ladd, 1) := dk_97 (dk_at dksX7_paste_3 8 rfl rfl)
theorem dX7_paste_78 : decode cX7_paste 78 = .ok (.aload_n 0, 1) := dk_42 (dk_at dksX7_paste_3 9 rfl rfl)
theorem dX7_paste_79 : decode cX7_paste 79 = .ok (.getfield 58, 3) := dk_180 0 58 (dk_at dksX7_paste_3 10 rfl rfl)
theorem dX7_paste_82 : decode cX7_paste 82 = .ok (.iload_n 1, 1) := dk_27 (dk_at dksX7_paste_3 13 rfl rfl)
theorem dX7_paste_83 : decode cX7_paste 83 = .ok (.iaload, 1) := dk_46 (dk_at dksX7_paste_3 14 rfl rfl)
theorem dX7_paste_84 : decode cX7_paste 84 = .ok (.i2l, 1) := dk_133 (dk_at dksX7_paste_3 15 rfl rfl)
theorem dX7_paste_85 : decode cX7_paste 85 = .ok (.lcmp, 1) := dk_148 (dk_at dksX7_paste_3 16 rfl rfl)
theorem dX7_paste_86 : decode cX7_paste 86 = .ok (.ifCond .gt 21, 3) := dk_157 0 21 (dk_at dksX7_paste_3 17 rfl rfl)
theorem dX7_paste_89 : decode cX7_paste 89 = .ok (.iload 4, 2) := dk_21 4 (dk_at dksX7_paste_3 20 rfl rfl)
theorem dX7_paste_91 : decode cX7_paste 91 = .ok (.i2l, 1) := dk_133 (dk_at dksX7_paste_3 22 rfl rfl)
theorem dX7_paste_92 : decode cX7_paste 92 = .ok (.iload 5, 2) := dk_21 5 (dk_at dksX7_paste_4 0 rfl rfl)
theorem dX7_paste_94 : decode cX7_paste 94 = .ok (.i2l, 1) := dk_133 (dk_at dksX7_paste_4 2 rfl rfl)
theorem dX7_paste_95 : decode cX7_paste 95 = .ok (.ladd, 1) := dk_97 (dk_at dksX7_paste_4 3 rfl rfl)
theorem dX7_paste_96 : decode cX7_paste 96 = .ok (.aload_n 0, 1) := dk_42 (dk_at dksX7_paste_4 4 rfl rfl)
theorem dX7_paste_97 : decode cX7_paste 97 = .ok (.getfield 58, 3) := dk_180 0 58 (dk_at dksX7_paste_4 5 rfl rfl)
theorem dX7_paste_100 : decode cX7_paste 100 = .ok (.iload_n 3, 1) := dk_29 (dk_at dksX7_paste_4 8 rfl rfl)
theorem dX7_paste_101 : decode cX7_paste 101 = .ok (.iaload, 1) := dk_46 (dk_at dksX7_paste_4 9 rfl rfl)
theorem dX7_paste_102 : decode cX7_paste 102 = .ok (.i2l, 1) := dk_133 (dk_at dksX7_paste_4 10 rfl rfl)
theorem dX7_paste_103 : decode cX7_paste 103 = .ok (.lcmp, 1) := dk_148 (dk_at dksX7_paste_4 11 rfl rfl)
theorem dX7_paste_104 : decode cX7_paste 104 = .ok (.ifCond .le 6, 3) := dk_158 0 6 (dk_at dksX7_paste_4 12 rfl rfl)
theorem dX7_paste_107 : decode cX7_paste 107 = .ok (.bipush (-7), 2) := dk_16 249 (dk_at dksX7_paste_4 15 rfl rfl)
theorem dX7_paste_109 : decode cX7_paste 109 = .ok (.ireturn, 1) := dk_172 (dk_at dksX7_paste_4 17 rfl rfl)
theorem dX7_paste_110 : decode cX7_paste 110 = .ok (.iconst 0, 1) := dk_3 (dk_at dksX7_paste_4 18 rfl rfl)
theorem dX7_paste_111 : decode cX7_paste 111 = .ok (.istore 6, 2) := dk_54 6 (dk_at dksX7_paste_4 19 rfl rfl)
theorem dX7_paste_113 : decode cX7_paste 113 = .ok (.iload 6, 2) := dk_21 6 (dk_at dksX7_paste_4 21 rfl rfl)
theorem dX7_paste_115 : decode cX7_paste 115 = .ok (.iload 5, 2) := dk_21 5 (dk_at dksX7_paste_5 0 rfl rfl)
theorem dX7_paste_117 : decode cX7_paste 117 = .ok (.if_icmp .ge 30, 3) := dk_162 0 30 (dk_at dksX7_paste_5 2 rfl rfl)
theorem dX7_paste_120 : decode cX7_paste 120 = .ok (.aload_n 0, 1) := dk_42 (dk_at dksX7_paste_5 5 rfl rfl)
theorem dX7_paste_121 : decode cX7_paste 121 = .ok (.getfield 68, 3) := dk_180 0 68 (dk_at dksX7_paste_5 6 rfl rfl)
theorem dX7_paste_124 : decode cX7_paste 124 = .ok (.iload 6, 2) := dk_21 6 (dk_at dksX7_paste_5 9 rfl rfl)
theorem dX7_paste_126 : decode cX7_paste 126 = .ok (.aload_n 0, 1) := dk_42 (dk_at dksX7_paste_5 11 rfl rfl)
theorem dX7_paste_127 : decode cX7_paste 127 = .ok (.getfield 64, 3) := dk_180 0 64 (dk_at dksX7_paste_5 12 rfl rfl)
theorem dX7_paste_130 : decode cX7_paste 130 = .ok (.bipush 60, 2) := dk_16 60 (dk_at dksX7_paste_5 15 rfl rfl)
theorem dX7_paste_132 : decode cX7_paste 132 = .ok (.iload_n 1, 1) := dk_27 (dk_at dksX7_paste_5 17 rfl rfl)
theorem dX7_paste_133 : decode cX7_paste 133 = .ok (.imul, 1) := dk_104 (dk_at dksX7_paste_5 18 rfl rfl)
theorem dX7_paste_134 : decode cX7_paste 134 = .ok (.iload_n 2, 1) := dk_28 (dk_at dksX7_paste_5 19 rfl rfl)
theorem dX7_paste_135 : decode cX7_paste 135 = .ok (.iadd, 1) := dk_96 (dk_at dksX7_paste_5 20 rfl rfl)
theorem dX7_paste_136 : decode cX7_paste 136 = .ok (.iload 6, 2) := dk_21 6 (dk_at dksX7_paste_5 21 rfl rfl)
theorem dX7_paste_138 : decode cX7_paste 138 = .ok (.iadd, 1) := dk_96 (dk_at dksX7_paste_5 23 rfl rfl)
theorem dX7_paste_139 : decode cX7_paste 139 = .ok (.laload, 1) := dk_47 (dk_at dksX7_paste_6 0 rfl rfl)
theorem dX7_paste_140 : decode cX7_paste 140 = .ok (.lastore, 1) := dk_80 (dk_at dksX7_paste_6 1 rfl rfl)
theorem dX7_paste_141 : decode cX7_paste 141 = .ok (.iinc 6 1, 3) := dk_132 6 1 (dk_at dksX7_paste_6 2 rfl rfl)
theorem dX7_paste_144 : decode cX7_paste 144 = .ok (.goto (-31), 3) := dk_167 255 225 (dk_at dksX7_paste_6 5 rfl rfl)
theorem dX7_paste_147 : decode cX7_paste 147 = .ok (.iconst 0, 1) := dk_3 (dk_at dksX7_paste_6 8 rfl rfl)
theorem dX7_paste_148 : decode cX7_paste 148 = .ok (.istore 6, 2) := dk_54 6 (dk_at dksX7_paste_6 9 rfl rfl)
theorem dX7_paste_150 : decode cX7_paste 150 = .ok (.iload 6, 2) := dk_21 6 (dk_at dksX7_paste_6 11 rfl rfl)
theorem dX7_paste_152 : decode cX7_paste 152 = .ok (.iload 5, 2) := dk_21 5 (dk_at dksX7_paste_6 13 rfl rfl)
theorem dX7_paste_154 : decode cX7_paste 154 = .ok (.if_icmp .ge 31, 3) := dk_162 0 31 (dk_at dksX7_paste_6 15 rfl rfl)
theorem dX7_paste_157 : decode cX7_paste 157 = .ok (.aload_n 0, 1) := dk_42 (dk_at dksX7_paste_6 18 rfl rfl)
theorem dX7_paste_158 : decode cX7_paste 158 = .ok (.getfield 64, 3) := dk_180 0 64 (dk_at dksX7_paste_6 19 rfl rfl)
theorem dX7_paste_161 : decode cX7_paste 161 = .ok (.bipush 60, 2) := dk_16 60 (dk_at dksX7_paste_6 22 rfl rfl)
theorem dX7_paste_163 : decode cX7_paste 163 = .ok (.iload_n 3, 1) := dk_29 (dk_at dksX7_paste_7 0 rfl rfl)
theorem dX7_paste_164 : decode cX7_paste 164 = .ok (.imul, 1) := dk_104 (dk_at dksX7_paste_7 1 rfl rfl)
theorem dX7_paste_165 : decode cX7_paste 165 = .ok (.iload 4, 2) := dk_21 4 (dk_at dksX7_paste_7 2 rfl rfl)
theorem dX7_paste_167 : decode cX7_paste 167 = .ok (.iadd, 1) := dk_96 (dk_at dksX7_paste_7 4 rfl rfl)
theorem dX7_paste_168 : decode cX7_paste 168 = .ok (.iload 6, 2) := dk_21 6 (dk_at dksX7_paste_7 5 rfl rfl)
theorem dX7_paste_170 : decode cX7_paste 170 = .ok (.iadd, 1) := dk_96 (dk_at dksX7_paste_7 7 rfl rfl)
theorem dX7_paste_171 : decode cX7_paste 171 = .ok (.aload_n 0, 1) := dk_42 (dk_at dksX7_paste_7 8 rfl rfl)
theorem dX7_paste_172 : decode cX7_paste 172 = .ok (.getfield 68, 3) := dk_180 0 68 (dk_at dksX7_paste_7 9 rfl rfl)
theorem dX7_paste_175 : decode cX7_paste 175 = .ok (.iload 6, 2) := dk_21 6 (dk_at dksX7_paste_7 12 rfl rfl)
theorem dX7_paste_177 : decode cX7_paste 177 = .ok (.laload, 1) := dk_47 (dk_at dksX7_paste_7 14 rfl rfl)
theorem dX7_paste_178 : decode cX7_paste 178 = .ok (.lastore, 1) := dk_80 (dk_at dksX7_paste_7 15 rfl rfl)
theorem dX7_paste_179 : decode cX7_paste 179 = .ok (.iinc 6 1, 3) := dk_132 6 1 (dk_at dksX7_paste_7 16 rfl rfl)
theorem dX7_paste_182 : decode cX7_paste 182 = .ok (.goto (-32), 3) := dk_167 255 224 (dk_at dksX7_paste_7 19 rfl rfl)
theorem dX7_paste_185 : decode cX7_paste 185 = .ok (.iconst 0, 1) := dk_3 (dk_at dksX7_paste_7 22 rfl rfl)
theorem dX7_paste_186 : decode cX7_paste 186 = .ok (.ireturn, 1) := dk_172 (dk_at dksX7_paste_7 23 rfl rfl)
theorem q178 : (Jvm.Cond.initialized "MergeJudgeModel") ∈ lw_all := lw_g (lw_at lw_m1 12 rfl) rfl
theorem q863 : (Jvm.Cond.selects "MergeJudgeModel" ({ cls := "java/lang/Object", name := "hashCode", desc := "()I" } : Jvm.MethodName) ({ cls := "java/lang/Object", name := "hashCode", desc := "()I" } : Jvm.MethodName)) ∈ lw_all := lw_g (lw_at lw_m3 217 rfl) rfl
theorem q1026 : (Jvm.Cond.selects "MergeJudgeModel" ({ cls := "java/lang/Object", name := "getClass", desc := "()Ljava/lang/Class;" } : Jvm.MethodName) ({ cls := "java/lang/Object", name := "getClass", desc := "()Ljava/lang/Class;" } : Jvm.MethodName)) ∈ lw_all := lw_g (lw_at lw_m4 140 rfl) rfl
theorem q1296 : (Jvm.Cond.selects "MergeJudgeModel" ({ cls := "java/lang/Object", name := "equals", desc := "(Ljava/lang/Object;)Z" } : Jvm.MethodName) ({ cls := "java/lang/Object", name := "equals", desc := "(Ljava/lang/Object;)Z" } : Jvm.MethodName)) ∈ lw_all := lw_g (lw_at lw_m5 170 rfl) rfl
theorem q2654 : (Jvm.Cond.instantiable "MergeJudgeModel" (42 : Nat)) ∈ lw_all := lw_g (lw_at lw_m11 88 rfl) rfl
theorem q2656 : (Jvm.Cond.instanceMethod ({ cls := "MergeJudgeModel", name := "<init>", desc := "()V" } : Jvm.MethodName)) ∈ lw_all := lw_g (lw_at lw_m11 90 rfl) rfl
theorem q2657 : (Jvm.Cond.code ({ cls := "MergeJudgeModel", name := "<init>", desc := "()V" } : Jvm.MethodName) prog_22_method_1_code (1 : Nat) (Option.none : Option Jvm.ClassFile.FieldType)) ∈ lw_all := lw_g (lw_at lw_m11 91 rfl) rfl
theorem q2658 : (Jvm.Cond.methodLink "MergeJudgeModel" (3 : Nat) ({ cls := "java/lang/Object", name := "<init>", desc := "()V" } : Jvm.MethodName)) ∈ lw_all := lw_g (lw_at lw_m11 92 rfl) rfl
theorem q2659 : (Jvm.Cond.fieldLink "MergeJudgeModel" (9 : Nat) "MergeJudgeModel" "world" "[I") ∈ lw_all := lw_g (lw_at lw_m11 93 rfl) rfl
theorem q2660 : (Jvm.Cond.fieldLink "MergeJudgeModel" (13 : Nat) "MergeJudgeModel" "images" "[I") ∈ lw_all := lw_g (lw_at lw_m11 94 rfl) rfl
theorem q2661 : (Jvm.Cond.fieldLink "MergeJudgeModel" (16 : Nat) "MergeJudgeModel" "hasImage" "[Z") ∈ lw_all := lw_g (lw_at lw_m11 95 rfl) rfl
theorem q2662 : (Jvm.Cond.fieldLink "MergeJudgeModel" (20 : Nat) "MergeJudgeModel" "tape" "[B") ∈ lw_all := lw_g (lw_at lw_m11 96 rfl) rfl
theorem q2663 : (Jvm.Cond.fieldLink "MergeJudgeModel" (99 : Nat) "MergeJudgeModel" "taped" "I") ∈ lw_all := lw_g (lw_at lw_m11 97 rfl) rfl
theorem q2664 : (Jvm.Cond.fieldLink "MergeJudgeModel" (24 : Nat) "MergeJudgeModel" "five" "[I") ∈ lw_all := lw_g (lw_at lw_m11 98 rfl) rfl
theorem q2665 : (Jvm.Cond.fieldLink "MergeJudgeModel" (102 : Nat) "MergeJudgeModel" "size" "I") ∈ lw_all := lw_g (lw_at lw_m11 99 rfl) rfl
theorem q2666 : (Jvm.Cond.fieldLink "MergeJudgeModel" (105 : Nat) "MergeJudgeModel" "at" "I") ∈ lw_all := lw_g (lw_at lw_m11 100 rfl) rfl
theorem q2667 : (Jvm.Cond.fieldLink "MergeJudgeModel" (112 : Nat) "MergeJudgeModel" "from" "I") ∈ lw_all := lw_g (lw_at lw_m11 101 rfl) rfl
theorem q2668 : (Jvm.Cond.fieldLink "MergeJudgeModel" (115 : Nat) "MergeJudgeModel" "token" "I") ∈ lw_all := lw_g (lw_at lw_m11 102 rfl) rfl
theorem q2669 : (Jvm.Cond.fieldLink "MergeJudgeModel" (126 : Nat) "MergeJudgeModel" "value" "I") ∈ lw_all := lw_g (lw_at lw_m11 103 rfl) rfl
theorem q2670 : (Jvm.Cond.fieldLink "MergeJudgeModel" (136 : Nat) "MergeJudgeModel" "faultKind" "I") ∈ lw_all := lw_g (lw_at lw_m11 104 rfl) rfl
theorem q2671 : (Jvm.Cond.fieldLink "MergeJudgeModel" (27 : Nat) "MergeJudgeModel" "faultPlace" "I") ∈ lw_all := lw_g (lw_at lw_m11 105 rfl) rfl
theorem q2672 : (Jvm.Cond.fieldLink "MergeJudgeModel" (31 : Nat) "MergeJudgeModel" "fresh" "[I") ∈ lw_all := lw_g (lw_at lw_m11 106 rfl) rfl
theorem q2673 : (Jvm.Cond.fieldLink "MergeJudgeModel" (34 : Nat) "MergeJudgeModel" "mergedBy" "[I") ∈ lw_all := lw_g (lw_at lw_m11 107 rfl) rfl
theorem q2674 : (Jvm.Cond.fieldLink "MergeJudgeModel" (276 : Nat) "MergeJudgeModel" "lawNow" "I") ∈ lw_all := lw_g (lw_at lw_m11 108 rfl) rfl
theorem q2675 : (Jvm.Cond.fieldLink "MergeJudgeModel" (279 : Nat) "MergeJudgeModel" "lockedNow" "I") ∈ lw_all := lw_g (lw_at lw_m11 109 rfl) rfl
theorem q2676 : (Jvm.Cond.fieldLink "MergeJudgeModel" (282 : Nat) "MergeJudgeModel" "droppedNow" "I") ∈ lw_all := lw_g (lw_at lw_m11 110 rfl) rfl
theorem q2677 : (Jvm.Cond.fieldLink "MergeJudgeModel" (37 : Nat) "MergeJudgeModel" "isValid" "[Z") ∈ lw_all := lw_g (lw_at lw_m11 111 rfl) rfl
theorem q2678 : (Jvm.Cond.fieldLink "MergeJudgeModel" (40 : Nat) "MergeJudgeModel" "goes" "[I") ∈ lw_all := lw_g (lw_at lw_m11 112 rfl) rfl
theorem q2679 : (Jvm.Cond.fieldLink "MergeJudgeModel" (43 : Nat) "MergeJudgeModel" "farNow" "[I") ∈ lw_all := lw_g (lw_at lw_m11 113 rfl) rfl
theorem q2680 : (Jvm.Cond.fieldLink "MergeJudgeModel" (46 : Nat) "MergeJudgeModel" "freeNow" "[I") ∈ lw_all := lw_g (lw_at lw_m11 114 rfl) rfl
theorem q2681 : (Jvm.Cond.fieldLink "MergeJudgeModel" (49 : Nat) "MergeJudgeModel" "isPair" "[Z") ∈ lw_all := lw_g (lw_at lw_m11 115 rfl) rfl
theorem q2682 : (Jvm.Cond.fieldLink "MergeJudgeModel" (52 : Nat) "MergeJudgeModel" "hitsBy" "[I") ∈ lw_all := lw_g (lw_at lw_m11 116 rfl) rfl
theorem q2683 : (Jvm.Cond.fieldLink "MergeJudgeModel" (367 : Nat) "MergeJudgeModel" "breakMany" "I") ∈ lw_all := lw_g (lw_at lw_m11 117 rfl) rfl
theorem q2684 : (Jvm.Cond.fieldLink "MergeJudgeModel" (370 : Nat) "MergeJudgeModel" "leastOps" "I") ∈ lw_all := lw_g (lw_at lw_m11 118 rfl) rfl
theorem q2685 : (Jvm.Cond.fieldLink "MergeJudgeModel" (373 : Nat) "MergeJudgeModel" "leastBase" "I") ∈ lw_all := lw_g (lw_at lw_m11 119 rfl) rfl
theorem q2686 : (Jvm.Cond.fieldLink "MergeJudgeModel" (376 : Nat) "MergeJudgeModel" "leastFirst" "I") ∈ lw_all := lw_g (lw_at lw_m11 120 rfl) rfl
theorem q2687 : (Jvm.Cond.fieldLink "MergeJudgeModel" (379 : Nat) "MergeJudgeModel" "leastSecond" "I") ∈ lw_all := lw_g (lw_at lw_m11 121 rfl) rfl
theorem q2688 : (Jvm.Cond.fieldLink "MergeJudgeModel" (409 : Nat) "MergeJudgeModel" "bestLocks" "I") ∈ lw_all := lw_g (lw_at lw_m11 122 rfl) rfl
theorem q2689 : (Jvm.Cond.fieldLink "MergeJudgeModel" (415 : Nat) "MergeJudgeModel" "inEach" "I") ∈ lw_all := lw_g (lw_at lw_m11 123 rfl) rfl
theorem q2690 : (Jvm.Cond.fieldLink "MergeJudgeModel" (437 : Nat) "MergeJudgeModel" "fitMany" "I") ∈ lw_all := lw_g (lw_at lw_m11 124 rfl) rfl
theorem q2691 : (Jvm.Cond.fieldLink "MergeJudgeModel" (440 : Nat) "MergeJudgeModel" "fitFirst" "I") ∈ lw_all := lw_g (lw_at lw_m11 125 rfl) rfl
theorem q2692 : (Jvm.Cond.fieldLink "MergeJudgeModel" (55 : Nat) "MergeJudgeModel" "worthBy" "[I") ∈ lw_all := lw_g (lw_at lw_m11 126 rfl) rfl
theorem q2693 : (Jvm.Cond.fieldLink "MergeJudgeModel" (481 : Nat) "MergeJudgeModel" "oftenAll" "J") ∈ lw_all := lw_g (lw_at lw_m11 127 rfl) rfl
theorem q2694 : (Jvm.Cond.fieldLink "MergeJudgeModel" (485 : Nat) "MergeJudgeModel" "oftenSafe" "J") ∈ lw_all := lw_g (lw_at lw_m11 128 rfl) rfl
theorem q2695 : (Jvm.Cond.fieldLink "MergeJudgeModel" (488 : Nat) "MergeJudgeModel" "oftenValid" "J") ∈ lw_all := lw_g (lw_at lw_m11 129 rfl) rfl
theorem q2696 : (Jvm.Cond.fieldLink "MergeJudgeModel" (58 : Nat) "MergeJudgeModel" "many" "[I") ∈ lw_all := lw_g (lw_at lw_m11 130 rfl) rfl
theorem q2697 : (Jvm.Cond.fieldLink "MergeJudgeModel" (61 : Nat) "MergeJudgeModel" "width" "[I") ∈ lw_all := lw_g (lw_at lw_m11 131 rfl) rfl
theorem q2698 : (Jvm.Cond.fieldLink "MergeJudgeModel" (64 : Nat) "MergeJudgeModel" "numbers" "[J") ∈ lw_all := lw_g (lw_at lw_m11 132 rfl) rfl
theorem q2699 : (Jvm.Cond.fieldLink "MergeJudgeModel" (68 : Nat) "MergeJudgeModel" "moving" "[J") ∈ lw_all := lw_g (lw_at lw_m11 133 rfl) rfl
theorem q2700 : (Jvm.Cond.lays "MergeJudgeModel" "MergeJudgeModel" "thrown" "I") ∈ lw_all := lw_g (lw_at lw_m11 134 rfl) rfl
theorem q2701 : (Jvm.Cond.soleField "MergeJudgeModel" "thrown") ∈ lw_all := lw_g (lw_at lw_m11 135 rfl) rfl
theorem q2702 : (Jvm.Cond.laysFinal "MergeJudgeModel" "MergeJudgeModel" "world" "[I") ∈ lw_all := lw_g (lw_at lw_m11 136 rfl) rfl
theorem q2703 : (Jvm.Cond.soleField "MergeJudgeModel" "world") ∈ lw_all := lw_g (lw_at lw_m11 137 rfl) rfl
theorem q2704 : (Jvm.Cond.laysFinal "MergeJudgeModel" "MergeJudgeModel" "images" "[I") ∈ lw_all := lw_g (lw_at lw_m11 138 rfl) rfl
theorem q2705 : (Jvm.Cond.soleField "MergeJudgeModel" "images") ∈ lw_all := lw_g (lw_at lw_m11 139 rfl) rfl
theorem q2706 : (Jvm.Cond.laysFinal "MergeJudgeModel" "MergeJudgeModel" "hasImage" "[Z") ∈ lw_all := lw_g (lw_at lw_m11 140 rfl) rfl
theorem q2707 : (Jvm.Cond.soleField "MergeJudgeModel" "hasImage") ∈ lw_all := lw_g (lw_at lw_m11 141 rfl) rfl
theorem q2708 : (Jvm.Cond.laysFinal "MergeJudgeModel" "MergeJudgeModel" "tape" "[B") ∈ lw_all := lw_g (lw_at lw_m11 142 rfl) rfl
theorem q2709 : (Jvm.Cond.soleField "MergeJudgeModel" "tape") ∈ lw_all := lw_g (lw_at lw_m11 143 rfl) rfl
theorem q2710 : (Jvm.Cond.lays "MergeJudgeModel" "MergeJudgeModel" "taped" "I") ∈ lw_all := lw_g (lw_at lw_m11 144 rfl) rfl
theorem q2711 : (Jvm.Cond.soleField "MergeJudgeModel" "taped") ∈ lw_all := lw_g (lw_at lw_m11 145 rfl) rfl
theorem q2712 : (Jvm.Cond.laysFinal "MergeJudgeModel" "MergeJudgeModel" "five" "[I") ∈ lw_all := lw_g (lw_at lw_m11 146 rfl) rfl
theorem q2713 : (Jvm.Cond.soleField "MergeJudgeModel" "five") ∈ lw_all := lw_g (lw_at lw_m11 147 rfl) rfl
theorem q2714 : (Jvm.Cond.lays "MergeJudgeModel" "MergeJudgeModel" "size" "I") ∈ lw_all := lw_g (lw_at lw_m11 148 rfl) rfl
theorem q2715 : (Jvm.Cond.soleField "MergeJudgeModel" "size") ∈ lw_all := lw_g (lw_at lw_m11 149 rfl) rfl
theorem q2716 : (Jvm.Cond.lays "MergeJudgeModel" "MergeJudgeModel" "at" "I") ∈ lw_all := lw_g (lw_at lw_m11 150 rfl) rfl
theorem q2717 : (Jvm.Cond.soleField "MergeJudgeModel" "at") ∈ lw_all := lw_g (lw_at lw_m11 151 rfl) rfl
theorem q2718 : (Jvm.Cond.lays "MergeJudgeModel" "MergeJudgeModel" "from" "I") ∈ lw_all := lw_g (lw_at lw_m11 152 rfl) rfl
theorem q2719 : (Jvm.Cond.soleField "MergeJudgeModel" "from") ∈ lw_all := lw_g (lw_at lw_m11 153 rfl) rfl
theorem q2720 : (Jvm.Cond.lays "MergeJudgeModel" "MergeJudgeModel" "token" "I") ∈ lw_all := lw_g (lw_at lw_m11 154 rfl) rfl
theorem q2721 : (Jvm.Cond.soleField "MergeJudgeModel" "token") ∈ lw_all := lw_g (lw_at lw_m11 155 rfl) rfl
theorem q2722 : (Jvm.Cond.lays "MergeJudgeModel" "MergeJudgeModel" "value" "I") ∈ lw_all := lw_g (lw_at lw_m11 156 rfl) rfl
theorem q2723 : (Jvm.Cond.soleField "MergeJudgeModel" "value") ∈ lw_all := lw_g (lw_at lw_m11 157 rfl) rfl
theorem q2724 : (Jvm.Cond.lays "MergeJudgeModel" "MergeJudgeModel" "faultKind" "I") ∈ lw_all := lw_g (lw_at lw_m11 158 rfl) rfl
theorem q2725 : (Jvm.Cond.soleField "MergeJudgeModel" "faultKind") ∈ lw_all := lw_g (lw_at lw_m11 159 rfl) rfl
theorem q2726 : (Jvm.Cond.lays "MergeJudgeModel" "MergeJudgeModel" "faultPlace" "I") ∈ lw_all := lw_g (lw_at lw_m11 160 rfl) rfl
theorem q2727 : (Jvm.Cond.soleField "MergeJudgeModel" "faultPlace") ∈ lw_all := lw_g (lw_at lw_m11 161 rfl) rfl
theorem q2728 : (Jvm.Cond.laysFinal "MergeJudgeModel" "MergeJudgeModel" "fresh" "[I") ∈ lw_all := lw_g (lw_at lw_m11 162 rfl) rfl
theorem q2729 : (Jvm.Cond.soleField "MergeJudgeModel" "fresh") ∈ lw_all := lw_g (lw_at lw_m11 163 rfl) rfl
theorem q2730 : (Jvm.Cond.laysFinal "MergeJudgeModel" "MergeJudgeModel" "mergedBy" "[I") ∈ lw_all := lw_g (lw_at lw_m11 164 rfl) rfl
theorem q2731 : (Jvm.Cond.soleField "MergeJudgeModel" "mergedBy") ∈ lw_all := lw_g (lw_at lw_m11 165 rfl) rfl
theorem q2732 : (Jvm.Cond.lays "MergeJudgeModel" "MergeJudgeModel" "lawNow" "I") ∈ lw_all := lw_g (lw_at lw_m11 166 rfl) rfl
theorem q2733 : (Jvm.Cond.soleField "MergeJudgeModel" "lawNow") ∈ lw_all := lw_g (lw_at lw_m11 167 rfl) rfl
theorem q2734 : (Jvm.Cond.lays "MergeJudgeModel" "MergeJudgeModel" "lockedNow" "I") ∈ lw_all := lw_g (lw_at lw_m11 168 rfl) rfl
theorem q2735 : (Jvm.Cond.soleField "MergeJudgeModel" "lockedNow") ∈ lw_all := lw_g (lw_at lw_m11 169 rfl) rfl
theorem q2736 : (Jvm.Cond.lays "MergeJudgeModel" "MergeJudgeModel" "droppedNow" "I") ∈ lw_all := lw_g (lw_at lw_m11 170 rfl) rfl
theorem q2737 : (Jvm.Cond.soleField "MergeJudgeModel" "droppedNow") ∈ lw_all := lw_g (lw_at lw_m11 171 rfl) rfl
theorem q2738 : (Jvm.Cond.laysFinal "MergeJudgeModel" "MergeJudgeModel" "isValid" "[Z") ∈ lw_all := lw_g (lw_at lw_m11 172 rfl) rfl
theorem q2739 : (Jvm.Cond.soleField "MergeJudgeModel" "isValid") ∈ lw_all := lw_g (lw_at lw_m11 173 rfl) rfl
theorem q2740 : (Jvm.Cond.laysFinal "MergeJudgeModel" "MergeJudgeModel" "goes" "[I") ∈ lw_all := lw_g (lw_at lw_m11 174 rfl) rfl
theorem q2741 : (Jvm.Cond.soleField "MergeJudgeModel" "goes") ∈ lw_all := lw_g (lw_at lw_m11 175 rfl) rfl
theorem q2742 : (Jvm.Cond.laysFinal "MergeJudgeModel" "MergeJudgeModel" "farNow" "[I") ∈ lw_all := lw_g (lw_at lw_m11 176 rfl) rfl
theorem q2743 : (Jvm.Cond.soleField "MergeJudgeModel" "farNow") ∈ lw_all := lw_g (lw_at lw_m11 177 rfl) rfl
theorem q2744 : (Jvm.Cond.laysFinal "MergeJudgeModel" "MergeJudgeModel" "freeNow" "[I") ∈ lw_all := lw_g (lw_at lw_m11 178 rfl) rfl
theorem q2745 : (Jvm.Cond.soleField "MergeJudgeModel" "freeNow") ∈ lw_all := lw_g (lw_at lw_m11 179 rfl) rfl
theorem q2746 : (Jvm.Cond.laysFinal "MergeJudgeModel" "MergeJudgeModel" "isPair" "[Z") ∈ lw_all := lw_g (lw_at lw_m11 180 rfl) rfl
theorem q2747 : (Jvm.Cond.soleField "MergeJudgeModel" "isPair") ∈ lw_all := lw_g (lw_at lw_m11 181 rfl) rfl
theorem q2748 : (Jvm.Cond.laysFinal "MergeJudgeModel" "MergeJudgeModel" "hitsBy" "[I") ∈ lw_all := lw_g (lw_at lw_m11 182 rfl) rfl
theorem q2749 : (Jvm.Cond.soleField "MergeJudgeModel" "hitsBy") ∈ lw_all := lw_g (lw_at lw_m11 183 rfl) rfl
theorem q2750 : (Jvm.Cond.lays "MergeJudgeModel" "MergeJudgeModel" "breakMany" "I") ∈ lw_all := lw_g (lw_at lw_m11 184 rfl) rfl
theorem q2751 : (Jvm.Cond.soleField "MergeJudgeModel" "breakMany") ∈ lw_all := lw_g (lw_at lw_m11 185 rfl) rfl
theorem q2752 : (Jvm.Cond.lays "MergeJudgeModel" "MergeJudgeModel" "leastOps" "I") ∈ lw_all := lw_g (lw_at lw_m11 186 rfl) rfl
theorem q2753 : (Jvm.Cond.soleField "MergeJudgeModel" "leastOps") ∈ lw_all := lw_g (lw_at lw_m11 187 rfl) rfl
theorem q2754 : (Jvm.Cond.lays "MergeJudgeModel" "MergeJudgeModel" "leastBase" "I") ∈ lw_all := lw_g (lw_at lw_m11 188 rfl) rfl
theorem q2755 : (Jvm.Cond.soleField "MergeJudgeModel" "leastBase") ∈ lw_all := lw_g (lw_at lw_m11 189 rfl) rfl
theorem q2756 : (Jvm.Cond.lays "MergeJudgeModel" "MergeJudgeModel" "leastFirst" "I") ∈ lw_all := lw_g (lw_at lw_m11 190 rfl) rfl
theorem q2757 : (Jvm.Cond.soleField "MergeJudgeModel" "leastFirst") ∈ lw_all := lw_g (lw_at lw_m11 191 rfl) rfl
theorem q2758 : (Jvm.Cond.lays "MergeJudgeModel" "MergeJudgeModel" "leastSecond" "I") ∈ lw_all := lw_g (lw_at lw_m11 192 rfl) rfl
theorem q2759 : (Jvm.Cond.soleField "MergeJudgeModel" "leastSecond") ∈ lw_all := lw_g (lw_at lw_m11 193 rfl) rfl
theorem q2760 : (Jvm.Cond.lays "MergeJudgeModel" "MergeJudgeModel" "bestLocks" "I") ∈ lw_all := lw_g (lw_at lw_m11 194 rfl) rfl
theorem q2761 : (Jvm.Cond.soleField "MergeJudgeModel" "bestLocks") ∈ lw_all := lw_g (lw_at lw_m11 195 rfl) rfl
theorem q2762 : (Jvm.Cond.lays "MergeJudgeModel" "MergeJudgeModel" "inEach" "I") ∈ lw_all := lw_g (lw_at lw_m11 196 rfl) rfl
theorem q2763 : (Jvm.Cond.soleField "MergeJudgeModel" "inEach") ∈ lw_all := lw_g (lw_at lw_m11 197 rfl) rfl
theorem q2764 : (Jvm.Cond.lays "MergeJudgeModel" "MergeJudgeModel" "fitMany" "I") ∈ lw_all := lw_g (lw_at lw_m11 198 rfl) rfl
theorem q2765 : (Jvm.Cond.soleField "MergeJudgeModel" "fitMany") ∈ lw_all := lw_g (lw_at lw_m11 199 rfl) rfl
theorem q2766 : (Jvm.Cond.lays "MergeJudgeModel" "MergeJudgeModel" "fitFirst" "I") ∈ lw_all := lw_g (lw_at lw_m11 200 rfl) rfl
theorem q2767 : (Jvm.Cond.soleField "MergeJudgeModel" "fitFirst") ∈ lw_all := lw_g (lw_at lw_m11 201 rfl) rfl
theorem q2768 : (Jvm.Cond.laysFinal "MergeJudgeModel" "MergeJudgeModel" "worthBy" "[I") ∈ lw_all := lw_g (lw_at lw_m11 202 rfl) rfl
theorem q2769 : (Jvm.Cond.soleField "MergeJudgeModel" "worthBy") ∈ lw_all := lw_g (lw_at lw_m11 203 rfl) rfl
theorem q2770 : (Jvm.Cond.lays "MergeJudgeModel" "MergeJudgeModel" "oftenAll" "J") ∈ lw_all := lw_g (lw_at lw_m11 204 rfl) rfl
theorem q2771 : (Jvm.Cond.soleField "MergeJudgeModel" "oftenAll") ∈ lw_all := lw_g (lw_at lw_m11 205 rfl) rfl
theorem q2772 : (Jvm.Cond.lays "MergeJudgeModel" "MergeJudgeModel" "oftenSafe" "J") ∈ lw_all := lw_g (lw_at lw_m11 206 rfl) rfl
theorem q2773 : (Jvm.Cond.soleField "MergeJudgeModel" "oftenSafe") ∈ lw_all := lw_g (lw_at lw_m11 207 rfl) rfl
theorem q2774 : (Jvm.Cond.lays "MergeJudgeModel" "MergeJudgeModel" "oftenValid" "J") ∈ lw_all := lw_g (lw_at lw_m11 208 rfl) rfl
theorem q2775 : (Jvm.Cond.soleField "MergeJudgeModel" "oftenValid") ∈ lw_all := lw_g (lw_at lw_m11 209 rfl) rfl
theorem q2776 : (Jvm.Cond.laysFinal "MergeJudgeModel" "MergeJudgeModel" "many" "[I") ∈ lw_all := lw_g (lw_at lw_m11 210 rfl) rfl
theorem q2777 : (Jvm.Cond.soleField "MergeJudgeModel" "many") ∈ lw_all := lw_g (lw_at lw_m11 211 rfl) rfl
theorem q2778 : (Jvm.Cond.laysFinal "MergeJudgeModel" "MergeJudgeModel" "width" "[I") ∈ lw_all := lw_g (lw_at lw_m11 212 rfl) rfl
theorem q2779 : (Jvm.Cond.soleField "MergeJudgeModel" "width") ∈ lw_all := lw_g (lw_at lw_m11 213 rfl) rfl
theorem q2780 : (Jvm.Cond.laysFinal "MergeJudgeModel" "MergeJudgeModel" "numbers" "[J") ∈ lw_all := lw_g (lw_at lw_m11 214 rfl) rfl
theorem q2781 : (Jvm.Cond.soleField "MergeJudgeModel" "numbers") ∈ lw_all := lw_g (lw_at lw_m11 215 rfl) rfl
theorem q2782 : (Jvm.Cond.laysFinal "MergeJudgeModel" "MergeJudgeModel" "moving" "[J") ∈ lw_all := lw_g (lw_at lw_m11 216 rfl) rfl
theorem q2783 : (Jvm.Cond.soleField "MergeJudgeModel" "moving") ∈ lw_all := lw_g (lw_at lw_m11 217 rfl) rfl
theorem q2784 : (Jvm.Cond.superclass "MergeJudgeModel" "java/lang/Object") ∈ lw_all := lw_g (lw_at lw_m11 218 rfl) rfl
theorem q2786 : (Jvm.Cond.instanceMethod ({ cls := "MergeJudgeModel", name := "image", desc := "(I)I" } : Jvm.MethodName)) ∈ lw_all := lw_g (lw_at lw_m11 220 rfl) rfl
theorem q2787 : (Jvm.Cond.selects "MergeJudgeModel" ({ cls := "MergeJudgeModel", name := "image", desc := "(I)I" } : Jvm.MethodName) ({ cls := "MergeJudgeModel", name := "image", desc := "(I)I" } : Jvm.MethodName)) ∈ lw_all := lw_g (lw_at lw_m11 221 rfl) rfl
theorem q2788 : (Jvm.Cond.code ({ cls := "MergeJudgeModel", name := "image", desc := "(I)I" } : Jvm.MethodName) prog_22_method_6_code (3 : Nat) (Option.some Jvm.ClassFile.FieldType.int)) ∈ lw_all := lw_g (lw_at lw_m11 222 rfl) rfl
theorem q2789 : (Jvm.Cond.constantLong "MergeJudgeModel" (74 : Nat) (2 : Int64)) ∈ lw_all := lw_g (lw_at lw_m11 223 rfl) rfl
theorem q2790 : (Jvm.Cond.methodLink "MergeJudgeModel" (76 : Nat) ({ cls := "MergeJudgeModel", name := "in", desc := "(JJJ)Z" } : Jvm.MethodName)) ∈ lw_all := lw_g (lw_at lw_m11 224 rfl) rfl
theorem q2791 : (Jvm.Cond.static ({ cls := "MergeJudgeModel", name := "in", desc := "(JJJ)Z" } : Jvm.MethodName)) ∈ lw_all := lw_g (lw_at lw_m11 225 rfl) rfl
theorem q2792 : (Jvm.Cond.code ({ cls := "MergeJudgeModel", name := "in", desc := "(JJJ)Z" } : Jvm.MethodName) prog_22_method_3_code (6 : Nat) (Option.some Jvm.ClassFile.FieldType.boolean)) ∈ lw_all := lw_g (lw_at lw_m11 226 rfl) rfl
theorem q2794 : (Jvm.Cond.instanceMethod ({ cls := "MergeJudgeModel", name := "back", desc := "(I)I" } : Jvm.MethodName)) ∈ lw_all := lw_g (lw_at lw_m11 228 rfl) rfl
theorem q2795 : (Jvm.Cond.selects "MergeJudgeModel" ({ cls := "MergeJudgeModel", name := "back", desc := "(I)I" } : Jvm.MethodName) ({ cls := "MergeJudgeModel", name := "back", desc := "(I)I" } : Jvm.MethodName)) ∈ lw_all := lw_g (lw_at lw_m11 229 rfl) rfl
theorem q2796 : (Jvm.Cond.code ({ cls := "MergeJudgeModel", name := "back", desc := "(I)I" } : Jvm.MethodName) prog_22_method_7_code (3 : Nat) (Option.some Jvm.ClassFile.FieldType.int)) ∈ lw_all := lw_g (lw_at lw_m11 230 rfl) rfl
theorem q2798 : (Jvm.Cond.instanceMethod ({ cls := "MergeJudgeModel", name := "feed", desc := "(IIIII)I" } : Jvm.MethodName)) ∈ lw_all := lw_g (lw_at lw_m11 232 rfl) rfl
theorem q2799 : (Jvm.Cond.selects "MergeJudgeModel" ({ cls := "MergeJudgeModel", name := "feed", desc := "(IIIII)I" } : Jvm.MethodName) ({ cls := "MergeJudgeModel", name := "feed", desc := "(IIIII)I" } : Jvm.MethodName)) ∈ lw_all := lw_g (lw_at lw_m11 233 rfl) rfl
theorem q2800 : (Jvm.Cond.code ({ cls := "MergeJudgeModel", name := "feed", desc := "(IIIII)I" } : Jvm.MethodName) prog_22_method_24_code (7 : Nat) (Option.some Jvm.ClassFile.FieldType.int)) ∈ lw_all := lw_g (lw_at lw_m11 234 rfl) rfl
theorem q2802 : (Jvm.Cond.instanceMethod ({ cls := "MergeJudgeModel", name := "end", desc := "(I)I" } : Jvm.MethodName)) ∈ lw_all := lw_g (lw_at lw_m11 236 rfl) rfl
theorem q2803 : (Jvm.Cond.selects "MergeJudgeModel" ({ cls := "MergeJudgeModel", name := "end", desc := "(I)I" } : Jvm.MethodName) ({ cls := "MergeJudgeModel", name := "end", desc := "(I)I" } : Jvm.MethodName)) ∈ lw_all := lw_g (lw_at lw_m11 237 rfl) rfl
theorem q2804 : (Jvm.Cond.code ({ cls := "MergeJudgeModel", name := "end", desc := "(I)I" } : Jvm.MethodName) prog_22_method_25_code (2 : Nat) (Option.some Jvm.ClassFile.FieldType.int)) ∈ lw_all := lw_g (lw_at lw_m11 238 rfl) rfl
theorem q2806 : (Jvm.Cond.instanceMethod ({ cls := "MergeJudgeModel", name := "fault", desc := "(I)I" } : Jvm.MethodName)) ∈ lw_all := lw_g (lw_at lw_m12 0 rfl) rfl
theorem q2807 : (Jvm.Cond.selects "MergeJudgeModel" ({ cls := "MergeJudgeModel", name := "fault", desc := "(I)I" } : Jvm.MethodName) ({ cls := "MergeJudgeModel", name := "fault", desc := "(I)I" } : Jvm.MethodName)) ∈ lw_all := lw_g (lw_at lw_m12 1 rfl) rfl
theorem q2808 : (Jvm.Cond.code ({ cls := "MergeJudgeModel", name := "fault", desc := "(I)I" } : Jvm.MethodName) prog_22_method_35_code (2 : Nat) (Option.some Jvm.ClassFile.FieldType.int)) ∈ lw_all := lw_g (lw_at lw_m12 2 rfl) rfl
theorem q2810 : (Jvm.Cond.instanceMethod ({ cls := "MergeJudgeModel", name := "base", desc := "()I" } : Jvm.MethodName)) ∈ lw_all := lw_g (lw_at lw_m12 4 rfl) rfl
theorem q2811 : (Jvm.Cond.selects "MergeJudgeModel" ({ cls := "MergeJudgeModel", name := "base", desc := "()I" } : Jvm.MethodName) ({ cls := "MergeJudgeModel", name := "base", desc := "()I" } : Jvm.MethodName)) ∈ lw_all := lw_g (lw_at lw_m12 5 rfl) rfl
theorem q2812 : (Jvm.Cond.code ({ cls := "MergeJudgeModel", name := "base", desc := "()I" } : Jvm.MethodName) prog_22_method_46_code (2 : Nat) (Option.some Jvm.ClassFile.FieldType.int)) ∈ lw_all := lw_g (lw_at lw_m12 6 rfl) rfl
theorem q2813 : (Jvm.Cond.methodLink "MergeJudgeModel" (155 : Nat) ({ cls := "MergeJudgeModel", name := "advance", desc := "()V" } : Jvm.MethodName)) ∈ lw_all := lw_g (lw_at lw_m12 7 rfl) rfl
theorem q2814 : (Jvm.Cond.privateMethod ({ cls := "MergeJudgeModel", name := "advance", desc := "()V" } : Jvm.MethodName)) ∈ lw_tbl := lw_at lw_m12 8 rfl
theorem q2815 : (Jvm.Cond.instanceMethod ({ cls := "MergeJudgeModel", name := "advance", desc := "()V" } : Jvm.MethodName)) ∈ lw_all := lw_g (lw_at lw_m12 9 rfl) rfl
theorem q2816 : (Jvm.Cond.code ({ cls := "MergeJudgeModel", name := "advance", desc := "()V" } : Jvm.MethodName) prog_22_method_27_code (2 : Nat) (Option.none : Option Jvm.ClassFile.FieldType)) ∈ lw_all := lw_g (lw_at lw_m12 10 rfl) rfl
theorem q2817 : (Jvm.Cond.methodLink "MergeJudgeModel" (108 : Nat) ({ cls := "MergeJudgeModel", name := "see", desc := "(I)I" } : Jvm.MethodName)) ∈ lw_all := lw_g (lw_at lw_m12 11 rfl) rfl
theorem q2818 : (Jvm.Cond.privateMethod ({ cls := "MergeJudgeModel", name := "see", desc := "(I)I" } : Jvm.MethodName)) ∈ lw_tbl := lw_at lw_m12 12 rfl
theorem q2819 : (Jvm.Cond.instanceMethod ({ cls := "MergeJudgeModel", name := "see", desc := "(I)I" } : Jvm.MethodName)) ∈ lw_all := lw_g (lw_at lw_m12 13 rfl) rfl
theorem q2820 : (Jvm.Cond.code ({ cls := "MergeJudgeModel", name := "see", desc := "(I)I" } : Jvm.MethodName) prog_22_method_26_code (2 : Nat) (Option.some Jvm.ClassFile.FieldType.int)) ∈ lw_all := lw_g (lw_at lw_m12 14 rfl) rfl
theorem q2821 : (Jvm.Cond.constantLong "MergeJudgeModel" (118 : Nat) (97 : Int64)) ∈ lw_all := lw_g (lw_at lw_m12 15 rfl) rfl
theorem q2822 : (Jvm.Cond.constantLong "MergeJudgeModel" (120 : Nat) (122 : Int64)) ∈ lw_all := lw_g (lw_at lw_m12 16 rfl) rfl
theorem q2823 : (Jvm.Cond.constantLong "MergeJudgeModel" (122 : Nat) (48 : Int64)) ∈ lw_all := lw_g (lw_at lw_m12 17 rfl) rfl
theorem q2824 : (Jvm.Cond.constantLong "MergeJudgeModel" (124 : Nat) (57 : Int64)) ∈ lw_all := lw_g (lw_at lw_m12 18 rfl) rfl
theorem q2825 : (Jvm.Cond.constant "MergeJudgeModel" (129 : Nat) (99999 : Int32)) ∈ lw_all := lw_g (lw_at lw_m12 19 rfl) rfl
theorem q2826 : (Jvm.Cond.methodLink "MergeJudgeModel" (130 : Nat) ({ cls := "java/lang/Math", name := "min", desc := "(II)I" } : Jvm.MethodName)) ∈ lw_all := lw_g (lw_at lw_m12 20 rfl) rfl
theorem q2827 : (Jvm.Cond.methodLink "MergeJudgeModel" (139 : Nat) ({ cls := "MergeJudgeModel", name := "good", desc := "()Z" } : Jvm.MethodName)) ∈ lw_all := lw_g (lw_at lw_m12 21 rfl) rfl
theorem q2828 : (Jvm.Cond.privateMethod ({ cls := "MergeJudgeModel", name := "good", desc := "()Z" } : Jvm.MethodName)) ∈ lw_tbl := lw_at lw_m12 22 rfl
theorem q2829 : (Jvm.Cond.instanceMethod ({ cls := "MergeJudgeModel", name := "good", desc := "()Z" } : Jvm.MethodName)) ∈ lw_all := lw_g (lw_at lw_m12 23 rfl) rfl
theorem q2830 : (Jvm.Cond.code ({ cls := "MergeJudgeModel", name := "good", desc := "()Z" } : Jvm.MethodName) prog_22_method_28_code (1 : Nat) (Option.some Jvm.ClassFile.FieldType.boolean)) ∈ lw_all := lw_g (lw_at lw_m12 24 rfl) rfl
theorem q2831 : (Jvm.Cond.methodLink "MergeJudgeModel" (249 : Nat) ({ cls := "MergeJudgeModel", name := "readLine", desc := "()V" } : Jvm.MethodName)) ∈ lw_all := lw_g (lw_at lw_m12 25 rfl) rfl
theorem q2832 : (Jvm.Cond.privateMethod ({ cls := "MergeJudgeModel", name := "readLine", desc := "()V" } : Jvm.MethodName)) ∈ lw_tbl := lw_at lw_m12 26 rfl
theorem q2833 : (Jvm.Cond.instanceMethod ({ cls := "MergeJudgeModel", name := "readLine", desc := "()V" } : Jvm.MethodName)) ∈ lw_all := lw_g (lw_at lw_m12 27 rfl) rfl
theorem q2834 : (Jvm.Cond.code ({ cls := "MergeJudgeModel", name := "readLine", desc := "()V" } : Jvm.MethodName) prog_22_method_45_code (1 : Nat) (Option.none : Option Jvm.ClassFile.FieldType)) ∈ lw_all := lw_g (lw_at lw_m12 28 rfl) rfl
theorem q2835 : (Jvm.Cond.methodLink "MergeJudgeModel" (243 : Nat) ({ cls := "MergeJudgeModel", name := "readFirst", desc := "()V" } : Jvm.MethodName)) ∈ lw_all := lw_g (lw_at lw_m12 29 rfl) rfl
theorem q2836 : (Jvm.Cond.privateMethod ({ cls := "MergeJudgeModel", name := "readFirst", desc := "()V" } : Jvm.MethodName)) ∈ lw_tbl := lw_at lw_m12 30 rfl
theorem q2837 : (Jvm.Cond.instanceMethod ({ cls := "MergeJudgeModel", name := "readFirst", desc := "()V" } : Jvm.MethodName)) ∈ lw_all := lw_g (lw_at lw_m12 31 rfl) rfl
theorem q2838 : (Jvm.Cond.code ({ cls := "MergeJudgeModel", name := "readFirst", desc := "()V" } : Jvm.MethodName) prog_22_method_36_code (1 : Nat) (Option.none : Option Jvm.ClassFile.FieldType)) ∈ lw_all := lw_g (lw_at lw_m12 32 rfl) rfl
theorem q2839 : (Jvm.Cond.stringRef "MergeJudgeModel" (172 : Nat) "base") ∈ lw_tbl := lw_at lw_m12 33 rfl
theorem q2840 : (Jvm.Cond.methodLink "MergeJudgeModel" (165 : Nat) ({ cls := "MergeJudgeModel", name := "expects", desc := "(Ljava/lang/String;)V" } : Jvm.MethodName)) ∈ lw_all := lw_g (lw_at lw_m12 34 rfl) rfl
theorem q2841 : (Jvm.Cond.privateMethod ({ cls := "MergeJudgeModel", name := "expects", desc := "(Ljava/lang/String;)V" } : Jvm.MethodName)) ∈ lw_tbl := lw_at lw_m12 35 rfl
theorem q2842 : (Jvm.Cond.instanceMethod ({ cls := "MergeJudgeModel", name := "expects", desc := "(Ljava/lang/String;)V" } : Jvm.MethodName)) ∈ lw_all := lw_g (lw_at lw_m12 36 rfl) rfl
theorem q2843 : (Jvm.Cond.code ({ cls := "MergeJudgeModel", name := "expects", desc := "(Ljava/lang/String;)V" } : Jvm.MethodName) prog_22_method_32_code (2 : Nat) (Option.none : Option Jvm.ClassFile.FieldType)) ∈ lw_all := lw_g (lw_at lw_m12 37 rfl) rfl
theorem q2844 : (Jvm.Cond.methodLink "MergeJudgeModel" (158 : Nat) ({ cls := "MergeJudgeModel", name := "takes", desc := "(Ljava/lang/String;)Z" } : Jvm.MethodName)) ∈ lw_all := lw_g (lw_at lw_m12 38 rfl) rfl
theorem q2845 : (Jvm.Cond.privateMethod ({ cls := "MergeJudgeModel", name := "takes", desc := "(Ljava/lang/String;)Z" } : Jvm.MethodName)) ∈ lw_tbl := lw_at lw_m12 39 rfl
theorem q2846 : (Jvm.Cond.instanceMethod ({ cls := "MergeJudgeModel", name := "takes", desc := "(Ljava/lang/String;)Z" } : Jvm.MethodName)) ∈ lw_all := lw_g (lw_at lw_m12 40 rfl) rfl
theorem q2847 : (Jvm.Cond.code ({ cls := "MergeJudgeModel", name := "takes", desc := "(Ljava/lang/String;)Z" } : Jvm.MethodName) prog_22_method_31_code (3 : Nat) (Option.some Jvm.ClassFile.FieldType.boolean)) ∈ lw_all := lw_g (lw_at lw_m12 41 rfl) rfl
theorem q2848 : (Jvm.Cond.methodLink "MergeJudgeModel" (151 : Nat) ({ cls := "MergeJudgeModel", name := "is", desc := "(Ljava/lang/String;)Z" } : Jvm.MethodName)) ∈ lw_all := lw_g (lw_at lw_m12 42 rfl) rfl
theorem q2849 : (Jvm.Cond.privateMethod ({ cls := "MergeJudgeModel", name := "is", desc := "(Ljava/lang/String;)Z" } : Jvm.MethodName)) ∈ lw_tbl := lw_at lw_m12 43 rfl
theorem q2850 : (Jvm.Cond.instanceMethod ({ cls := "MergeJudgeModel", name := "is", desc := "(Ljava/lang/String;)Z" } : Jvm.MethodName)) ∈ lw_all := lw_g (lw_at lw_m12 44 rfl) rfl
theorem q2851 : (Jvm.Cond.code ({ cls := "MergeJudgeModel", name := "is", desc := "(Ljava/lang/String;)Z" } : Jvm.MethodName) prog_22_method_30_code (4 : Nat) (Option.some Jvm.ClassFile.FieldType.boolean)) ∈ lw_all := lw_g (lw_at lw_m12 45 rfl) rfl
theorem q2852 : (Jvm.Cond.methodLink "MergeJudgeModel" (142 : Nat) ({ cls := "java/lang/String", name := "length", desc := "()I" } : Jvm.MethodName)) ∈ lw_all := lw_g (lw_at lw_m12 46 rfl) rfl
theorem q2853 : (Jvm.Cond.methodLink "MergeJudgeModel" (147 : Nat) ({ cls := "java/lang/String", name := "charAt", desc := "(I)C" } : Jvm.MethodName)) ∈ lw_all := lw_g (lw_at lw_m12 47 rfl) rfl
theorem q2864 : (Jvm.Cond.methodLink "MergeJudgeModel" (161 : Nat) ({ cls := "MergeJudgeModel", name := "errs", desc := "(I)V" } : Jvm.MethodName)) ∈ lw_all := lw_g (lw_at lw_m12 58 rfl) rfl
theorem q2865 : (Jvm.Cond.privateMethod ({ cls := "MergeJudgeModel", name := "errs", desc := "(I)V" } : Jvm.MethodName)) ∈ lw_tbl := lw_at lw_m12 59 rfl
theorem q2866 : (Jvm.Cond.instanceMethod ({ cls := "MergeJudgeModel", name := "errs", desc := "(I)V" } : Jvm.MethodName)) ∈ lw_all := lw_g (lw_at lw_m12 60 rfl) rfl
theorem q2867 : (Jvm.Cond.code ({ cls := "MergeJudgeModel", name := "errs", desc := "(I)V" } : Jvm.MethodName) prog_22_method_29_code (2 : Nat) (Option.none : Option Jvm.ClassFile.FieldType)) ∈ lw_all := lw_g (lw_at lw_m12 61 rfl) rfl
theorem q2868 : (Jvm.Cond.stringRef "MergeJudgeModel" (174 : Nat) "top") ∈ lw_tbl := lw_at lw_m12 62 rfl
theorem q2869 : (Jvm.Cond.methodLink "MergeJudgeModel" (176 : Nat) ({ cls := "MergeJudgeModel", name := "toldBy", desc := "(Ljava/lang/String;II)I" } : Jvm.MethodName)) ∈ lw_all := lw_g (lw_at lw_m12 63 rfl) rfl
theorem q2870 : (Jvm.Cond.privateMethod ({ cls := "MergeJudgeModel", name := "toldBy", desc := "(Ljava/lang/String;II)I" } : Jvm.MethodName)) ∈ lw_tbl := lw_at lw_m12 64 rfl
theorem q2871 : (Jvm.Cond.instanceMethod ({ cls := "MergeJudgeModel", name := "toldBy", desc := "(Ljava/lang/String;II)I" } : Jvm.MethodName)) ∈ lw_all := lw_g (lw_at lw_m12 65 rfl) rfl
theorem q2872 : (Jvm.Cond.code ({ cls := "MergeJudgeModel", name := "toldBy", desc := "(Ljava/lang/String;II)I" } : Jvm.MethodName) prog_22_method_34_code (4 : Nat) (Option.some Jvm.ClassFile.FieldType.int)) ∈ lw_all := lw_g (lw_at lw_m12 66 rfl) rfl
theorem q2873 : (Jvm.Cond.methodLink "MergeJudgeModel" (169 : Nat) ({ cls := "MergeJudgeModel", name := "number", desc := "(II)I" } : Jvm.MethodName)) ∈ lw_all := lw_g (lw_at lw_m12 67 rfl) rfl
theorem q2874 : (Jvm.Cond.privateMethod ({ cls := "MergeJudgeModel", name := "number", desc := "(II)I" } : Jvm.MethodName)) ∈ lw_tbl := lw_at lw_m12 68 rfl
theorem q2875 : (Jvm.Cond.instanceMethod ({ cls := "MergeJudgeModel", name := "number", desc := "(II)I" } : Jvm.MethodName)) ∈ lw_all := lw_g (lw_at lw_m12 69 rfl) rfl
theorem q2876 : (Jvm.Cond.code ({ cls := "MergeJudgeModel", name := "number", desc := "(II)I" } : Jvm.MethodName) prog_22_method_33_code (4 : Nat) (Option.some Jvm.ClassFile.FieldType.int)) ∈ lw_all := lw_g (lw_at lw_m12 70 rfl) rfl
theorem q2877 : (Jvm.Cond.stringRef "MergeJudgeModel" (180 : Nat) "law") ∈ lw_tbl := lw_at lw_m12 71 rfl
theorem q2878 : (Jvm.Cond.stringRef "MergeJudgeModel" (182 : Nat) "odds") ∈ lw_tbl := lw_at lw_m12 72 rfl
theorem q2879 : (Jvm.Cond.methodLink "MergeJudgeModel" (246 : Nat) ({ cls := "MergeJudgeModel", name := "readNext", desc := "()V" } : Jvm.MethodName)) ∈ lw_all := lw_g (lw_at lw_m12 73 rfl) rfl
theorem q2880 : (Jvm.Cond.privateMethod ({ cls := "MergeJudgeModel", name := "readNext", desc := "()V" } : Jvm.MethodName)) ∈ lw_tbl := lw_at lw_m12 74 rfl
theorem q2881 : (Jvm.Cond.instanceMethod ({ cls := "MergeJudgeModel", name := "readNext", desc := "()V" } : Jvm.MethodName)) ∈ lw_all := lw_g (lw_at lw_m12 75 rfl) rfl
theorem q2882 : (Jvm.Cond.code ({ cls := "MergeJudgeModel", name := "readNext", desc := "()V" } : Jvm.MethodName) prog_22_method_44_code (2 : Nat) (Option.none : Option Jvm.ClassFile.FieldType)) ∈ lw_all := lw_g (lw_at lw_m12 76 rfl) rfl
theorem q2883 : (Jvm.Cond.stringRef "MergeJudgeModel" (222 : Nat) "cell") ∈ lw_tbl := lw_at lw_m12 77 rfl
theorem q2884 : (Jvm.Cond.stringRef "MergeJudgeModel" (224 : Nat) "rule") ∈ lw_tbl := lw_at lw_m12 78 rfl
theorem q2885 : (Jvm.Cond.stringRef "MergeJudgeModel" (226 : Nat) "op") ∈ lw_tbl := lw_at lw_m12 79 rfl
theorem q2886 : (Jvm.Cond.methodLink "MergeJudgeModel" (228 : Nat) ({ cls := "MergeJudgeModel", name := "isFull", desc := "()Z" } : Jvm.MethodName)) ∈ lw_all := lw_g (lw_at lw_m12 80 rfl) rfl
theorem q2887 : (Jvm.Cond.privateMethod ({ cls := "MergeJudgeModel", name := "isFull", desc := "()Z" } : Jvm.MethodName)) ∈ lw_tbl := lw_at lw_m12 81 rfl
theorem q2888 : (Jvm.Cond.instanceMethod ({ cls := "MergeJudgeModel", name := "isFull", desc := "()Z" } : Jvm.MethodName)) ∈ lw_all := lw_g (lw_at lw_m12 82 rfl) rfl
theorem q2889 : (Jvm.Cond.code ({ cls := "MergeJudgeModel", name := "isFull", desc := "()Z" } : Jvm.MethodName) prog_22_method_43_code (1 : Nat) (Option.some Jvm.ClassFile.FieldType.boolean)) ∈ lw_all := lw_g (lw_at lw_m12 83 rfl) rfl
theorem q2890 : (Jvm.Cond.stringRef "MergeJudgeModel" (231 : Nat) "max") ∈ lw_tbl := lw_at lw_m12 84 rfl
theorem q2891 : (Jvm.Cond.stringRef "MergeJudgeModel" (232 : Nat) "min") ∈ lw_tbl := lw_at lw_m12 85 rfl
theorem q2892 : (Jvm.Cond.stringRef "MergeJudgeModel" (233 : Nat) "add") ∈ lw_tbl := lw_at lw_m12 86 rfl
theorem q2893 : (Jvm.Cond.stringRef "MergeJudgeModel" (235 : Nat) "late") ∈ lw_tbl := lw_at lw_m12 87 rfl
theorem q2894 : (Jvm.Cond.stringRef "MergeJudgeModel" (220 : Nat) "") ∈ lw_tbl := lw_at lw_m12 88 rfl
theorem q2895 : (Jvm.Cond.methodLink "MergeJudgeModel" (206 : Nat) ({ cls := "MergeJudgeModel", name := "readKind", desc := "(Ljava/lang/String;Ljava/lang/String;Ljava/lang/String;Ljava/lang/String;Ljava/lang/String;Ljava/lang/String;)I" } : Jvm.MethodName)) ∈ lw_all := lw_g (lw_at lw_m12 89 rfl) rfl
theorem q2896 : (Jvm.Cond.privateMethod ({ cls := "MergeJudgeModel", name := "readKind", desc := "(Ljava/lang/String;Ljava/lang/String;Ljava/lang/String;Ljava/lang/String;Ljava/lang/String;Ljava/lang/String;)I" } : Jvm.MethodName)) ∈ lw_tbl := lw_at lw_m12 90 rfl
theorem q2897 : (Jvm.Cond.instanceMethod ({ cls := "MergeJudgeModel", name := "readKind", desc := "(Ljava/lang/String;Ljava/lang/String;Ljava/lang/String;Ljava/lang/String;Ljava/lang/String;Ljava/lang/String;)I" } : Jvm.MethodName)) ∈ lw_all := lw_g (lw_at lw_m12 91 rfl) rfl
theorem q2898 : (Jvm.Cond.code ({ cls := "MergeJudgeModel", name := "readKind", desc := "(Ljava/lang/String;Ljava/lang/String;Ljava/lang/String;Ljava/lang/String;Ljava/lang/String;Ljava/lang/String;)I" } : Jvm.MethodName) prog_22_method_40_code (8 : Nat) (Option.some Jvm.ClassFile.FieldType.int)) ∈ lw_all := lw_g (lw_at lw_m12 92 rfl) rfl
theorem q2899 : (Jvm.Cond.methodLink "MergeJudgeModel" (187 : Nat) ({ cls := "MergeJudgeModel", name := "kindWord", desc := "(Ljava/lang/String;Ljava/lang/String;Ljava/lang/String;Ljava/lang/String;Ljava/lang/String;Ljava/lang/String;)I" } : Jvm.MethodName)) ∈ lw_all := lw_g (lw_at lw_m12 93 rfl) rfl
theorem q2900 : (Jvm.Cond.privateMethod ({ cls := "MergeJudgeModel", name := "kindWord", desc := "(Ljava/lang/String;Ljava/lang/String;Ljava/lang/String;Ljava/lang/String;Ljava/lang/String;Ljava/lang/String;)I" } : Jvm.MethodName)) ∈ lw_tbl := lw_at lw_m12 94 rfl
theorem q2901 : (Jvm.Cond.instanceMethod ({ cls := "MergeJudgeModel", name := "kindWord", desc := "(Ljava/lang/String;Ljava/lang/String;Ljava/lang/String;Ljava/lang/String;Ljava/lang/String;Ljava/lang/String;)I" } : Jvm.MethodName)) ∈ lw_all := lw_g (lw_at lw_m12 95 rfl) rfl
theorem q2902 : (Jvm.Cond.code ({ cls := "MergeJudgeModel", name := "kindWord", desc := "(Ljava/lang/String;Ljava/lang/String;Ljava/lang/String;Ljava/lang/String;Ljava/lang/String;Ljava/lang/String;)I" } : Jvm.MethodName) prog_22_method_39_code (7 : Nat) (Option.some Jvm.ClassFile.FieldType.int)) ∈ lw_all := lw_g (lw_at lw_m12 96 rfl) rfl
theorem q2903 : (Jvm.Cond.methodLink "MergeJudgeModel" (191 : Nat) ({ cls := "java/lang/Math", name := "max", desc := "(II)I" } : Jvm.MethodName)) ∈ lw_all := lw_g (lw_at lw_m12 97 rfl) rfl
theorem q2904 : (Jvm.Cond.methodLink "MergeJudgeModel" (237 : Nat) ({ cls := "MergeJudgeModel", name := "readRule", desc := "()V" } : Jvm.MethodName)) ∈ lw_all := lw_g (lw_at lw_m12 98 rfl) rfl
theorem q2905 : (Jvm.Cond.privateMethod ({ cls := "MergeJudgeModel", name := "readRule", desc := "()V" } : Jvm.MethodName)) ∈ lw_tbl := lw_at lw_m12 99 rfl
theorem q2906 : (Jvm.Cond.instanceMethod ({ cls := "MergeJudgeModel", name := "readRule", desc := "()V" } : Jvm.MethodName)) ∈ lw_all := lw_g (lw_at lw_m12 100 rfl) rfl
theorem q2907 : (Jvm.Cond.code ({ cls := "MergeJudgeModel", name := "readRule", desc := "()V" } : Jvm.MethodName) prog_22_method_41_code (3 : Nat) (Option.none : Option Jvm.ClassFile.FieldType)) ∈ lw_all := lw_g (lw_at lw_m12 101 rfl) rfl
theorem q2908 : (Jvm.Cond.stringRef "MergeJudgeModel" (194 : Nat) "most") ∈ lw_tbl := lw_at lw_m12 102 rfl
theorem q2909 : (Jvm.Cond.stringRef "MergeJudgeModel" (196 : Nat) "least") ∈ lw_tbl := lw_at lw_m12 103 rfl
theorem q2910 : (Jvm.Cond.stringRef "MergeJudgeModel" (198 : Nat) "unlike") ∈ lw_tbl := lw_at lw_m12 104 rfl
theorem q2911 : (Jvm.Cond.stringRef "MergeJudgeModel" (200 : Nat) "sum") ∈ lw_tbl := lw_at lw_m12 105 rfl
theorem q2912 : (Jvm.Cond.stringRef "MergeJudgeModel" (202 : Nat) "order") ∈ lw_tbl := lw_at lw_m12 106 rfl
theorem q2913 : (Jvm.Cond.stringRef "MergeJudgeModel" (204 : Nat) "if") ∈ lw_tbl := lw_at lw_m12 107 rfl
theorem q2914 : (Jvm.Cond.methodLink "MergeJudgeModel" (184 : Nat) ({ cls := "MergeJudgeModel", name := "readCell", desc := "()I" } : Jvm.MethodName)) ∈ lw_all := lw_g (lw_at lw_m12 108 rfl) rfl
theorem q2915 : (Jvm.Cond.privateMethod ({ cls := "MergeJudgeModel", name := "readCell", desc := "()I" } : Jvm.MethodName)) ∈ lw_tbl := lw_at lw_m12 109 rfl
theorem q2916 : (Jvm.Cond.instanceMethod ({ cls := "MergeJudgeModel", name := "readCell", desc := "()I" } : Jvm.MethodName)) ∈ lw_all := lw_g (lw_at lw_m12 110 rfl) rfl
theorem q2917 : (Jvm.Cond.code ({ cls := "MergeJudgeModel", name := "readCell", desc := "()I" } : Jvm.MethodName) prog_22_method_37_code (1 : Nat) (Option.some Jvm.ClassFile.FieldType.int)) ∈ lw_all := lw_g (lw_at lw_m12 111 rfl) rfl
theorem q2918 : (Jvm.Cond.methodLink "MergeJudgeModel" (209 : Nat) ({ cls := "MergeJudgeModel", name := "readOther", desc := "(I)I" } : Jvm.MethodName)) ∈ lw_all := lw_g (lw_at lw_m12 112 rfl) rfl
theorem q2919 : (Jvm.Cond.privateMethod ({ cls := "MergeJudgeModel", name := "readOther", desc := "(I)I" } : Jvm.MethodName)) ∈ lw_tbl := lw_at lw_m12 113 rfl
theorem q2920 : (Jvm.Cond.instanceMethod ({ cls := "MergeJudgeModel", name := "readOther", desc := "(I)I" } : Jvm.MethodName)) ∈ lw_all := lw_g (lw_at lw_m12 114 rfl) rfl
theorem q2921 : (Jvm.Cond.code ({ cls := "MergeJudgeModel", name := "readOther", desc := "(I)I" } : Jvm.MethodName) prog_22_method_38_code (2 : Nat) (Option.some Jvm.ClassFile.FieldType.int)) ∈ lw_all := lw_g (lw_at lw_m12 115 rfl) rfl
theorem q2922 : (Jvm.Cond.methodLink "MergeJudgeModel" (240 : Nat) ({ cls := "MergeJudgeModel", name := "readOp", desc := "()V" } : Jvm.MethodName)) ∈ lw_all := lw_g (lw_at lw_m12 116 rfl) rfl
theorem q2923 : (Jvm.Cond.privateMethod ({ cls := "MergeJudgeModel", name := "readOp", desc := "()V" } : Jvm.MethodName)) ∈ lw_tbl := lw_at lw_m12 117 rfl
theorem q2924 : (Jvm.Cond.instanceMethod ({ cls := "MergeJudgeModel", name := "readOp", desc := "()V" } : Jvm.MethodName)) ∈ lw_all := lw_g (lw_at lw_m12 118 rfl) rfl
theorem q2925 : (Jvm.Cond.code ({ cls := "MergeJudgeModel", name := "readOp", desc := "()V" } : Jvm.MethodName) prog_22_method_42_code (3 : Nat) (Option.none : Option Jvm.ClassFile.FieldType)) ∈ lw_all := lw_g (lw_at lw_m12 119 rfl) rfl
theorem q2926 : (Jvm.Cond.stringRef "MergeJudgeModel" (212 : Nat) "more") ∈ lw_tbl := lw_at lw_m12 120 rfl
theorem q2927 : (Jvm.Cond.stringRef "MergeJudgeModel" (214 : Nat) "less") ∈ lw_tbl := lw_at lw_m12 121 rfl
theorem q2928 : (Jvm.Cond.stringRef "MergeJudgeModel" (216 : Nat) "set") ∈ lw_tbl := lw_at lw_m12 122 rfl
theorem q2929 : (Jvm.Cond.stringRef "MergeJudgeModel" (218 : Nat) "move") ∈ lw_tbl := lw_at lw_m12 123 rfl
theorem q2931 : (Jvm.Cond.instanceMethod ({ cls := "MergeJudgeModel", name := "cell", desc := "(I)I" } : Jvm.MethodName)) ∈ lw_all := lw_g (lw_at lw_m12 125 rfl) rfl
theorem q2932 : (Jvm.Cond.selects "MergeJudgeModel" ({ cls := "MergeJudgeModel", name := "cell", desc := "(I)I" } : Jvm.MethodName) ({ cls := "MergeJudgeModel", name := "cell", desc := "(I)I" } : Jvm.MethodName)) ∈ lw_all := lw_g (lw_at lw_m12 126 rfl) rfl
theorem q2933 : (Jvm.Cond.code ({ cls := "MergeJudgeModel", name := "cell", desc := "(I)I" } : Jvm.MethodName) prog_22_method_47_code (2 : Nat) (Option.some Jvm.ClassFile.FieldType.int)) ∈ lw_all := lw_g (lw_at lw_m12 127 rfl) rfl
theorem q2934 : (Jvm.Cond.methodLink "MergeJudgeModel" (252 : Nat) ({ cls := "MergeJudgeModel", name := "isCell", desc := "(I)Z" } : Jvm.MethodName)) ∈ lw_all := lw_g (lw_at lw_m12 128 rfl) rfl
theorem q2935 : (Jvm.Cond.privateMethod ({ cls := "MergeJudgeModel", name := "isCell", desc := "(I)Z" } : Jvm.MethodName)) ∈ lw_tbl := lw_at lw_m12 129 rfl
theorem q2936 : (Jvm.Cond.instanceMethod ({ cls := "MergeJudgeModel", name := "isCell", desc := "(I)Z" } : Jvm.MethodName)) ∈ lw_all := lw_g (lw_at lw_m12 130 rfl) rfl
theorem q2937 : (Jvm.Cond.code ({ cls := "MergeJudgeModel", name := "isCell", desc := "(I)Z" } : Jvm.MethodName) prog_22_method_14_code (2 : Nat) (Option.some Jvm.ClassFile.FieldType.boolean)) ∈ lw_all := lw_g (lw_at lw_m12 131 rfl) rfl
theorem q2938 : (Jvm.Cond.methodLink "MergeJudgeModel" (87 : Nat) ({ cls := "MergeJudgeModel", name := "cells", desc := "()I" } : Jvm.MethodName)) ∈ lw_all := lw_g (lw_at lw_m12 132 rfl) rfl
theorem q2939 : (Jvm.Cond.privateMethod ({ cls := "MergeJudgeModel", name := "cells", desc := "()I" } : Jvm.MethodName)) ∈ lw_tbl := lw_at lw_m12 133 rfl
theorem q2940 : (Jvm.Cond.instanceMethod ({ cls := "MergeJudgeModel", name := "cells", desc := "()I" } : Jvm.MethodName)) ∈ lw_all := lw_g (lw_at lw_m12 134 rfl) rfl
theorem q2941 : (Jvm.Cond.code ({ cls := "MergeJudgeModel", name := "cells", desc := "()I" } : Jvm.MethodName) prog_22_method_9_code (1 : Nat) (Option.some Jvm.ClassFile.FieldType.int)) ∈ lw_all := lw_g (lw_at lw_m12 135 rfl) rfl
theorem q2943 : (Jvm.Cond.instanceMethod ({ cls := "MergeJudgeModel", name := "rule", desc := "(II)I" } : Jvm.MethodName)) ∈ lw_all := lw_g (lw_at lw_m12 137 rfl) rfl
theorem q2944 : (Jvm.Cond.selects "MergeJudgeModel" ({ cls := "MergeJudgeModel", name := "rule", desc := "(II)I" } : Jvm.MethodName) ({ cls := "MergeJudgeModel", name := "rule", desc := "(II)I" } : Jvm.MethodName)) ∈ lw_all := lw_g (lw_at lw_m12 138 rfl) rfl
theorem q2945 : (Jvm.Cond.code ({ cls := "MergeJudgeModel", name := "rule", desc := "(II)I" } : Jvm.MethodName) prog_22_method_48_code (3 : Nat) (Option.some Jvm.ClassFile.FieldType.int)) ∈ lw_all := lw_g (lw_at lw_m12 139 rfl) rfl
theorem q2946 : (Jvm.Cond.methodLink "MergeJudgeModel" (256 : Nat) ({ cls := "MergeJudgeModel", name := "isRule", desc := "(I)Z" } : Jvm.MethodName)) ∈ lw_all := lw_g (lw_at lw_m12 140 rfl) rfl
theorem q2947 : (Jvm.Cond.privateMethod ({ cls := "MergeJudgeModel", name := "isRule", desc := "(I)Z" } : Jvm.MethodName)) ∈ lw_tbl := lw_at lw_m12 141 rfl
theorem q2948 : (Jvm.Cond.instanceMethod ({ cls := "MergeJudgeModel", name := "isRule", desc := "(I)Z" } : Jvm.MethodName)) ∈ lw_all := lw_g (lw_at lw_m12 142 rfl) rfl
theorem q2949 : (Jvm.Cond.code ({ cls := "MergeJudgeModel", name := "isRule", desc := "(I)Z" } : Jvm.MethodName) prog_22_method_15_code (2 : Nat) (Option.some Jvm.ClassFile.FieldType.boolean)) ∈ lw_all := lw_g (lw_at lw_m12 143 rfl) rfl
theorem q2950 : (Jvm.Cond.methodLink "MergeJudgeModel" (80 : Nat) ({ cls := "MergeJudgeModel", name := "rules", desc := "()I" } : Jvm.MethodName)) ∈ lw_all := lw_g (lw_at lw_m12 144 rfl) rfl
theorem q2951 : (Jvm.Cond.privateMethod ({ cls := "MergeJudgeModel", name := "rules", desc := "()I" } : Jvm.MethodName)) ∈ lw_tbl := lw_at lw_m12 145 rfl
theorem q2952 : (Jvm.Cond.instanceMethod ({ cls := "MergeJudgeModel", name := "rules", desc := "()I" } : Jvm.MethodName)) ∈ lw_all := lw_g (lw_at lw_m12 146 rfl) rfl
theorem q2953 : (Jvm.Cond.code ({ cls := "MergeJudgeModel", name := "rules", desc := "()I" } : Jvm.MethodName) prog_22_method_10_code (1 : Nat) (Option.some Jvm.ClassFile.FieldType.int)) ∈ lw_all := lw_g (lw_at lw_m12 147 rfl) rfl
theorem q2954 : (Jvm.Cond.constantLong "MergeJudgeModel" (259 : Nat) (4 : Int64)) ∈ lw_all := lw_g (lw_at lw_m12 148 rfl) rfl
theorem q2955 : (Jvm.Cond.methodLink "MergeJudgeModel" (261 : Nat) ({ cls := "MergeJudgeModel", name := "ruleOf", desc := "(II)I" } : Jvm.MethodName)) ∈ lw_all := lw_g (lw_at lw_m12 149 rfl) rfl
theorem q2956 : (Jvm.Cond.privateMethod ({ cls := "MergeJudgeModel", name := "ruleOf", desc := "(II)I" } : Jvm.MethodName)) ∈ lw_tbl := lw_at lw_m12 150 rfl
theorem q2957 : (Jvm.Cond.instanceMethod ({ cls := "MergeJudgeModel", name := "ruleOf", desc := "(II)I" } : Jvm.MethodName)) ∈ lw_all := lw_g (lw_at lw_m12 151 rfl) rfl
theorem q2958 : (Jvm.Cond.code ({ cls := "MergeJudgeModel", name := "ruleOf", desc := "(II)I" } : Jvm.MethodName) prog_22_method_20_code (3 : Nat) (Option.some Jvm.ClassFile.FieldType.int)) ∈ lw_all := lw_g (lw_at lw_m12 152 rfl) rfl
theorem q2959 : (Jvm.Cond.methodLink "MergeJudgeModel" (264 : Nat) ({ cls := "MergeJudgeModel", name := "ruleNumbers", desc := "(I)I" } : Jvm.MethodName)) ∈ lw_all := lw_g (lw_at lw_m12 153 rfl) rfl
theorem q2960 : (Jvm.Cond.static ({ cls := "MergeJudgeModel", name := "ruleNumbers", desc := "(I)I" } : Jvm.MethodName)) ∈ lw_all := lw_g (lw_at lw_m12 154 rfl) rfl
theorem q2961 : (Jvm.Cond.code ({ cls := "MergeJudgeModel", name := "ruleNumbers", desc := "(I)I" } : Jvm.MethodName) prog_22_method_22_code (1 : Nat) (Option.some Jvm.ClassFile.FieldType.int)) ∈ lw_all := lw_g (lw_at lw_m12 155 rfl) rfl
theorem q2963 : (Jvm.Cond.instanceMethod ({ cls := "MergeJudgeModel", name := "op", desc := "(II)I" } : Jvm.MethodName)) ∈ lw_all := lw_g (lw_at lw_m12 157 rfl) rfl
theorem q2964 : (Jvm.Cond.selects "MergeJudgeModel" ({ cls := "MergeJudgeModel", name := "op", desc := "(II)I" } : Jvm.MethodName) ({ cls := "MergeJudgeModel", name := "op", desc := "(II)I" } : Jvm.MethodName)) ∈ lw_all := lw_g (lw_at lw_m12 158 rfl) rfl
theorem q2965 : (Jvm.Cond.code ({ cls := "MergeJudgeModel", name := "op", desc := "(II)I" } : Jvm.MethodName) prog_22_method_49_code (3 : Nat) (Option.some Jvm.ClassFile.FieldType.int)) ∈ lw_all := lw_g (lw_at lw_m12 159 rfl) rfl
theorem q2966 : (Jvm.Cond.methodLink "MergeJudgeModel" (267 : Nat) ({ cls := "MergeJudgeModel", name := "isOp", desc := "(I)Z" } : Jvm.MethodName)) ∈ lw_all := lw_g (lw_at lw_m12 160 rfl) rfl
theorem q2967 : (Jvm.Cond.privateMethod ({ cls := "MergeJudgeModel", name := "isOp", desc := "(I)Z" } : Jvm.MethodName)) ∈ lw_tbl := lw_at lw_m12 161 rfl
theorem q2968 : (Jvm.Cond.instanceMethod ({ cls := "MergeJudgeModel", name := "isOp", desc := "(I)Z" } : Jvm.MethodName)) ∈ lw_all := lw_g (lw_at lw_m12 162 rfl) rfl
theorem q2969 : (Jvm.Cond.code ({ cls := "MergeJudgeModel", name := "isOp", desc := "(I)Z" } : Jvm.MethodName) prog_22_method_16_code (2 : Nat) (Option.some Jvm.ClassFile.FieldType.boolean)) ∈ lw_all := lw_g (lw_at lw_m12 163 rfl) rfl
theorem q2970 : (Jvm.Cond.methodLink "MergeJudgeModel" (84 : Nat) ({ cls := "MergeJudgeModel", name := "ops", desc := "()I" } : Jvm.MethodName)) ∈ lw_all := lw_g (lw_at lw_m12 164 rfl) rfl
theorem q2971 : (Jvm.Cond.privateMethod ({ cls := "MergeJudgeModel", name := "ops", desc := "()I" } : Jvm.MethodName)) ∈ lw_tbl := lw_at lw_m12 165 rfl
theorem q2972 : (Jvm.Cond.instanceMethod ({ cls := "MergeJudgeModel", name := "ops", desc := "()I" } : Jvm.MethodName)) ∈ lw_all := lw_g (lw_at lw_m12 166 rfl) rfl
theorem q2973 : (Jvm.Cond.code ({ cls := "MergeJudgeModel", name := "ops", desc := "()I" } : Jvm.MethodName) prog_22_method_11_code (1 : Nat) (Option.some Jvm.ClassFile.FieldType.int)) ∈ lw_all := lw_g (lw_at lw_m12 167 rfl) rfl
theorem q2974 : (Jvm.Cond.constantLong "MergeJudgeModel" (90 : Nat) (3 : Int64)) ∈ lw_all := lw_g (lw_at lw_m12 168 rfl) rfl
theorem q2975 : (Jvm.Cond.methodLink "MergeJudgeModel" (270 : Nat) ({ cls := "MergeJudgeModel", name := "opOf", desc := "(II)I" } : Jvm.MethodName)) ∈ lw_all := lw_g (lw_at lw_m12 169 rfl) rfl
theorem q2976 : (Jvm.Cond.privateMethod ({ cls := "MergeJudgeModel", name := "opOf", desc := "(II)I" } : Jvm.MethodName)) ∈ lw_tbl := lw_at lw_m12 170 rfl
theorem q2977 : (Jvm.Cond.instanceMethod ({ cls := "MergeJudgeModel", name := "opOf", desc := "(II)I" } : Jvm.MethodName)) ∈ lw_all := lw_g (lw_at lw_m12 171 rfl) rfl
theorem q2978 : (Jvm.Cond.code ({ cls := "MergeJudgeModel", name := "opOf", desc := "(II)I" } : Jvm.MethodName) prog_22_method_21_code (3 : Nat) (Option.some Jvm.ClassFile.FieldType.int)) ∈ lw_all := lw_g (lw_at lw_m12 172 rfl) rfl
theorem q2979 : (Jvm.Cond.methodLink "MergeJudgeModel" (273 : Nat) ({ cls := "MergeJudgeModel", name := "opNumbers", desc := "(I)I" } : Jvm.MethodName)) ∈ lw_all := lw_g (lw_at lw_m12 173 rfl) rfl
theorem q2980 : (Jvm.Cond.static ({ cls := "MergeJudgeModel", name := "opNumbers", desc := "(I)I" } : Jvm.MethodName)) ∈ lw_all := lw_g (lw_at lw_m12 174 rfl) rfl
theorem q2981 : (Jvm.Cond.code ({ cls := "MergeJudgeModel", name := "opNumbers", desc := "(I)I" } : Jvm.MethodName) prog_22_method_23_code (1 : Nat) (Option.some Jvm.ClassFile.FieldType.int)) ∈ lw_all := lw_g (lw_at lw_m12 175 rfl) rfl
theorem q2983 : (Jvm.Cond.instanceMethod ({ cls := "MergeJudgeModel", name := "states", desc := "()I" } : Jvm.MethodName)) ∈ lw_all := lw_g (lw_at lw_m12 177 rfl) rfl
theorem q2984 : (Jvm.Cond.selects "MergeJudgeModel" ({ cls := "MergeJudgeModel", name := "states", desc := "()I" } : Jvm.MethodName) ({ cls := "MergeJudgeModel", name := "states", desc := "()I" } : Jvm.MethodName)) ∈ lw_all := lw_g (lw_at lw_m12 178 rfl) rfl
theorem q2985 : (Jvm.Cond.code ({ cls := "MergeJudgeModel", name := "states", desc := "()I" } : Jvm.MethodName) prog_22_method_61_code (1 : Nat) (Option.some Jvm.ClassFile.FieldType.int)) ∈ lw_all := lw_g (lw_at lw_m12 179 rfl) rfl
theorem q2986 : (Jvm.Cond.methodLink "MergeJudgeModel" (92 : Nat) ({ cls := "MergeJudgeModel", name := "isBase", desc := "()Z" } : Jvm.MethodName)) ∈ lw_all := lw_g (lw_at lw_m12 180 rfl) rfl
theorem q2987 : (Jvm.Cond.privateMethod ({ cls := "MergeJudgeModel", name := "isBase", desc := "()Z" } : Jvm.MethodName)) ∈ lw_tbl := lw_at lw_m12 181 rfl
theorem q2988 : (Jvm.Cond.instanceMethod ({ cls := "MergeJudgeModel", name := "isBase", desc := "()Z" } : Jvm.MethodName)) ∈ lw_all := lw_g (lw_at lw_m12 182 rfl) rfl
theorem q2989 : (Jvm.Cond.code ({ cls := "MergeJudgeModel", name := "isBase", desc := "()Z" } : Jvm.MethodName) prog_22_method_8_code (1 : Nat) (Option.some Jvm.ClassFile.FieldType.boolean)) ∈ lw_all := lw_g (lw_at lw_m12 183 rfl) rfl
theorem q2990 : (Jvm.Cond.methodLink "MergeJudgeModel" (96 : Nat) ({ cls := "MergeJudgeModel", name := "stateMany", desc := "()I" } : Jvm.MethodName)) ∈ lw_all := lw_g (lw_at lw_m12 184 rfl) rfl
theorem q2991 : (Jvm.Cond.privateMethod ({ cls := "MergeJudgeModel", name := "stateMany", desc := "()I" } : Jvm.MethodName)) ∈ lw_tbl := lw_at lw_m12 185 rfl
theorem q2992 : (Jvm.Cond.instanceMethod ({ cls := "MergeJudgeModel", name := "stateMany", desc := "()I" } : Jvm.MethodName)) ∈ lw_all := lw_g (lw_at lw_m12 186 rfl) rfl
theorem q2993 : (Jvm.Cond.code ({ cls := "MergeJudgeModel", name := "stateMany", desc := "()I" } : Jvm.MethodName) prog_22_method_18_code (3 : Nat) (Option.some Jvm.ClassFile.FieldType.int)) ∈ lw_all := lw_g (lw_at lw_m12 187 rfl) rfl
theorem q2995 : (Jvm.Cond.instanceMethod ({ cls := "MergeJudgeModel", name := "value", desc := "(II)I" } : Jvm.MethodName)) ∈ lw_all := lw_g (lw_at lw_m12 189 rfl) rfl
theorem q2996 : (Jvm.Cond.selects "MergeJudgeModel" ({ cls := "MergeJudgeModel", name := "value", desc := "(II)I" } : Jvm.MethodName) ({ cls := "MergeJudgeModel", name := "value", desc := "(II)I" } : Jvm.MethodName)) ∈ lw_all := lw_g (lw_at lw_m12 190 rfl) rfl
theorem q2997 : (Jvm.Cond.code ({ cls := "MergeJudgeModel", name := "value", desc := "(II)I" } : Jvm.MethodName) prog_22_method_62_code (3 : Nat) (Option.some Jvm.ClassFile.FieldType.int)) ∈ lw_all := lw_g (lw_at lw_m12 191 rfl) rfl
theorem q2998 : (Jvm.Cond.methodLink "MergeJudgeModel" (314 : Nat) ({ cls := "MergeJudgeModel", name := "isState", desc := "(J)Z" } : Jvm.MethodName)) ∈ lw_all := lw_g (lw_at lw_m12 192 rfl) rfl
theorem q2999 : (Jvm.Cond.privateMethod ({ cls := "MergeJudgeModel", name := "isState", desc := "(J)Z" } : Jvm.MethodName)) ∈ lw_tbl := lw_at lw_m12 193 rfl
theorem q3000 : (Jvm.Cond.instanceMethod ({ cls := "MergeJudgeModel", name := "isState", desc := "(J)Z" } : Jvm.MethodName)) ∈ lw_all := lw_g (lw_at lw_m12 194 rfl) rfl
theorem q3001 : (Jvm.Cond.code ({ cls := "MergeJudgeModel", name := "isState", desc := "(J)Z" } : Jvm.MethodName) prog_22_method_19_code (3 : Nat) (Option.some Jvm.ClassFile.FieldType.boolean)) ∈ lw_all := lw_g (lw_at lw_m12 195 rfl) rfl
theorem q3002 : (Jvm.Cond.methodLink "MergeJudgeModel" (285 : Nat) ({ cls := "MergeJudgeModel", name := "valueOf", desc := "(II)I" } : Jvm.MethodName)) ∈ lw_all := lw_g (lw_at lw_m12 196 rfl) rfl
theorem q3003 : (Jvm.Cond.privateMethod ({ cls := "MergeJudgeModel", name := "valueOf", desc := "(II)I" } : Jvm.MethodName)) ∈ lw_tbl := lw_at lw_m12 197 rfl
theorem q3004 : (Jvm.Cond.instanceMethod ({ cls := "MergeJudgeModel", name := "valueOf", desc := "(II)I" } : Jvm.MethodName)) ∈ lw_all := lw_g (lw_at lw_m12 198 rfl) rfl
theorem q3005 : (Jvm.Cond.code ({ cls := "MergeJudgeModel", name := "valueOf", desc := "(II)I" } : Jvm.MethodName) prog_22_method_51_code (5 : Nat) (Option.some Jvm.ClassFile.FieldType.int)) ∈ lw_all := lw_g (lw_at lw_m12 199 rfl) rfl
theorem q3007 : (Jvm.Cond.instanceMethod ({ cls := "MergeJudgeModel", name := "weight", desc := "(I)I" } : Jvm.MethodName)) ∈ lw_all := lw_g (lw_at lw_m12 201 rfl) rfl
theorem q3008 : (Jvm.Cond.selects "MergeJudgeModel" ({ cls := "MergeJudgeModel", name := "weight", desc := "(I)I" } : Jvm.MethodName) ({ cls := "MergeJudgeModel", name := "weight", desc := "(I)I" } : Jvm.MethodName)) ∈ lw_all := lw_g (lw_at lw_m12 202 rfl) rfl
theorem q3009 : (Jvm.Cond.code ({ cls := "MergeJudgeModel", name := "weight", desc := "(I)I" } : Jvm.MethodName) prog_22_method_63_code (4 : Nat) (Option.some Jvm.ClassFile.FieldType.int)) ∈ lw_all := lw_g (lw_at lw_m12 203 rfl) rfl
theorem q3011 : (Jvm.Cond.instanceMethod ({ cls := "MergeJudgeModel", name := "holds", desc := "(II)I" } : Jvm.MethodName)) ∈ lw_all := lw_g (lw_at lw_m12 205 rfl) rfl
theorem q3012 : (Jvm.Cond.selects "MergeJudgeModel" ({ cls := "MergeJudgeModel", name := "holds", desc := "(II)I" } : Jvm.MethodName) ({ cls := "MergeJudgeModel", name := "holds", desc := "(II)I" } : Jvm.MethodName)) ∈ lw_all := lw_g (lw_at lw_m12 206 rfl) rfl
theorem q3013 : (Jvm.Cond.code ({ cls := "MergeJudgeModel", name := "holds", desc := "(II)I" } : Jvm.MethodName) prog_22_method_64_code (3 : Nat) (Option.some Jvm.ClassFile.FieldType.int)) ∈ lw_all := lw_g (lw_at lw_m12 207 rfl) rfl
theorem q3014 : (Jvm.Cond.methodLink "MergeJudgeModel" (291 : Nat) ({ cls := "MergeJudgeModel", name := "holdsIn", desc := "(II)Z" } : Jvm.MethodName)) ∈ lw_all := lw_g (lw_at lw_m12 208 rfl) rfl
theorem q3015 : (Jvm.Cond.privateMethod ({ cls := "MergeJudgeModel", name := "holdsIn", desc := "(II)Z" } : Jvm.MethodName)) ∈ lw_tbl := lw_at lw_m12 209 rfl
theorem q3016 : (Jvm.Cond.instanceMethod ({ cls := "MergeJudgeModel", name := "holdsIn", desc := "(II)Z" } : Jvm.MethodName)) ∈ lw_all := lw_g (lw_at lw_m12 210 rfl) rfl
theorem q3017 : (Jvm.Cond.code ({ cls := "MergeJudgeModel", name := "holdsIn", desc := "(II)Z" } : Jvm.MethodName) prog_22_method_52_code (5 : Nat) (Option.some Jvm.ClassFile.FieldType.boolean)) ∈ lw_all := lw_g (lw_at lw_m12 211 rfl) rfl
theorem q3019 : (Jvm.Cond.instanceMethod ({ cls := "MergeJudgeModel", name := "dropped", desc := "()I" } : Jvm.MethodName)) ∈ lw_all := lw_g (lw_at lw_m12 213 rfl) rfl
theorem q3020 : (Jvm.Cond.selects "MergeJudgeModel" ({ cls := "MergeJudgeModel", name := "dropped", desc := "()I" } : Jvm.MethodName) ({ cls := "MergeJudgeModel", name := "dropped", desc := "()I" } : Jvm.MethodName)) ∈ lw_all := lw_g (lw_at lw_m12 214 rfl) rfl
theorem q3021 : (Jvm.Cond.code ({ cls := "MergeJudgeModel", name := "dropped", desc := "()I" } : Jvm.MethodName) prog_22_method_65_code (1 : Nat) (Option.some Jvm.ClassFile.FieldType.int)) ∈ lw_all := lw_g (lw_at lw_m12 215 rfl) rfl
theorem q3022 : (Jvm.Cond.methodLink "MergeJudgeModel" (318 : Nat) ({ cls := "MergeJudgeModel", name := "asks", desc := "()Z" } : Jvm.MethodName)) ∈ lw_all := lw_g (lw_at lw_m12 216 rfl) rfl
theorem q3023 : (Jvm.Cond.privateMethod ({ cls := "MergeJudgeModel", name := "asks", desc := "()Z" } : Jvm.MethodName)) ∈ lw_tbl := lw_at lw_m12 217 rfl
theorem q3024 : (Jvm.Cond.instanceMethod ({ cls := "MergeJudgeModel", name := "asks", desc := "()Z" } : Jvm.MethodName)) ∈ lw_all := lw_g (lw_at lw_m12 218 rfl) rfl
theorem q3025 : (Jvm.Cond.code ({ cls := "MergeJudgeModel", name := "asks", desc := "()Z" } : Jvm.MethodName) prog_22_method_59_code (1 : Nat) (Option.some Jvm.ClassFile.FieldType.boolean)) ∈ lw_all := lw_g (lw_at lw_m12 219 rfl) rfl
theorem q3026 : (Jvm.Cond.methodLink "MergeJudgeModel" (308 : Nat) ({ cls := "MergeJudgeModel", name := "asItIs", desc := "()V" } : Jvm.MethodName)) ∈ lw_all := lw_g (lw_at lw_m12 220 rfl) rfl
theorem q3027 : (Jvm.Cond.privateMethod ({ cls := "MergeJudgeModel", name := "asItIs", desc := "()V" } : Jvm.MethodName)) ∈ lw_tbl := lw_at lw_m12 221 rfl
theorem q3028 : (Jvm.Cond.instanceMethod ({ cls := "MergeJudgeModel", name := "asItIs", desc := "()V" } : Jvm.MethodName)) ∈ lw_all := lw_g (lw_at lw_m12 222 rfl) rfl
theorem q3029 : (Jvm.Cond.code ({ cls := "MergeJudgeModel", name := "asItIs", desc := "()V" } : Jvm.MethodName) prog_22_method_50_code (3 : Nat) (Option.none : Option Jvm.ClassFile.FieldType)) ∈ lw_all := lw_g (lw_at lw_m12 223 rfl) rfl
theorem q3030 : (Jvm.Cond.methodLink "MergeJudgeModel" (311 : Nat) ({ cls := "MergeJudgeModel", name := "layStates", desc := "()V" } : Jvm.MethodName)) ∈ lw_all := lw_g (lw_at lw_m12 224 rfl) rfl
theorem q3031 : (Jvm.Cond.privateMethod ({ cls := "MergeJudgeModel", name := "layStates", desc := "()V" } : Jvm.MethodName)) ∈ lw_tbl := lw_at lw_m12 225 rfl
theorem q3032 : (Jvm.Cond.instanceMethod ({ cls := "MergeJudgeModel", name := "layStates", desc := "()V" } : Jvm.MethodName)) ∈ lw_all := lw_g (lw_at lw_m12 226 rfl) rfl
theorem q3033 : (Jvm.Cond.code ({ cls := "MergeJudgeModel", name := "layStates", desc := "()V" } : Jvm.MethodName) prog_22_method_57_code (3 : Nat) (Option.none : Option Jvm.ClassFile.FieldType)) ∈ lw_all := lw_g (lw_at lw_m12 227 rfl) rfl
theorem q3034 : (Jvm.Cond.methodLink "MergeJudgeModel" (302 : Nat) ({ cls := "MergeJudgeModel", name := "brokenBy", desc := "(I)I" } : Jvm.MethodName)) ∈ lw_all := lw_g (lw_at lw_m12 228 rfl) rfl
theorem q3035 : (Jvm.Cond.privateMethod ({ cls := "MergeJudgeModel", name := "brokenBy", desc := "(I)I" } : Jvm.MethodName)) ∈ lw_tbl := lw_at lw_m12 229 rfl
theorem q3036 : (Jvm.Cond.instanceMethod ({ cls := "MergeJudgeModel", name := "brokenBy", desc := "(I)I" } : Jvm.MethodName)) ∈ lw_all := lw_g (lw_at lw_m12 230 rfl) rfl
theorem q3037 : (Jvm.Cond.code ({ cls := "MergeJudgeModel", name := "brokenBy", desc := "(I)I" } : Jvm.MethodName) prog_22_method_53_code (3 : Nat) (Option.some Jvm.ClassFile.FieldType.int)) ∈ lw_all := lw_g (lw_at lw_m12 231 rfl) rfl
theorem q3038 : (Jvm.Cond.methodLink "MergeJudgeModel" (288 : Nat) ({ cls := "MergeJudgeModel", name := "bit", desc := "(II)I" } : Jvm.MethodName)) ∈ lw_all := lw_g (lw_at lw_m12 232 rfl) rfl
theorem q3039 : (Jvm.Cond.static ({ cls := "MergeJudgeModel", name := "bit", desc := "(II)I" } : Jvm.MethodName)) ∈ lw_all := lw_g (lw_at lw_m12 233 rfl) rfl
theorem q3040 : (Jvm.Cond.code ({ cls := "MergeJudgeModel", name := "bit", desc := "(II)I" } : Jvm.MethodName) prog_22_method_5_code (2 : Nat) (Option.some Jvm.ClassFile.FieldType.int)) ∈ lw_all := lw_g (lw_at lw_m12 234 rfl) rfl
theorem q3041 : (Jvm.Cond.methodLink "MergeJudgeModel" (305 : Nat) ({ cls := "MergeJudgeModel", name := "doneBy", desc := "(II)I" } : Jvm.MethodName)) ∈ lw_all := lw_g (lw_at lw_m12 235 rfl) rfl
theorem q3042 : (Jvm.Cond.privateMethod ({ cls := "MergeJudgeModel", name := "doneBy", desc := "(II)I" } : Jvm.MethodName)) ∈ lw_tbl := lw_at lw_m12 236 rfl
theorem q3043 : (Jvm.Cond.instanceMethod ({ cls := "MergeJudgeModel", name := "doneBy", desc := "(II)I" } : Jvm.MethodName)) ∈ lw_all := lw_g (lw_at lw_m12 237 rfl) rfl
theorem q3044 : (Jvm.Cond.code ({ cls := "MergeJudgeModel", name := "doneBy", desc := "(II)I" } : Jvm.MethodName) prog_22_method_56_code (6 : Nat) (Option.some Jvm.ClassFile.FieldType.int)) ∈ lw_all := lw_g (lw_at lw_m12 238 rfl) rfl
theorem q3045 : (Jvm.Cond.methodLink "MergeJudgeModel" (299 : Nat) ({ cls := "MergeJudgeModel", name := "added", desc := "(III)I" } : Jvm.MethodName)) ∈ lw_all := lw_g (lw_at lw_m12 239 rfl) rfl
theorem q3046 : (Jvm.Cond.privateMethod ({ cls := "MergeJudgeModel", name := "added", desc := "(III)I" } : Jvm.MethodName)) ∈ lw_tbl := lw_at lw_m13 0 rfl
theorem q3047 : (Jvm.Cond.instanceMethod ({ cls := "MergeJudgeModel", name := "added", desc := "(III)I" } : Jvm.MethodName)) ∈ lw_all := lw_g (lw_at lw_m13 1 rfl) rfl
theorem q3048 : (Jvm.Cond.code ({ cls := "MergeJudgeModel", name := "added", desc := "(III)I" } : Jvm.MethodName) prog_22_method_55_code (5 : Nat) (Option.some Jvm.ClassFile.FieldType.int)) ∈ lw_all := lw_g (lw_at lw_m13 2 rfl) rfl
theorem q3049 : (Jvm.Cond.methodLink "MergeJudgeModel" (295 : Nat) ({ cls := "MergeJudgeModel", name := "withValue", desc := "(III)I" } : Jvm.MethodName)) ∈ lw_all := lw_g (lw_at lw_m13 3 rfl) rfl
theorem q3050 : (Jvm.Cond.privateMethod ({ cls := "MergeJudgeModel", name := "withValue", desc := "(III)I" } : Jvm.MethodName)) ∈ lw_tbl := lw_at lw_m13 4 rfl
theorem q3051 : (Jvm.Cond.instanceMethod ({ cls := "MergeJudgeModel", name := "withValue", desc := "(III)I" } : Jvm.MethodName)) ∈ lw_all := lw_g (lw_at lw_m13 5 rfl) rfl
theorem q3052 : (Jvm.Cond.code ({ cls := "MergeJudgeModel", name := "withValue", desc := "(III)I" } : Jvm.MethodName) prog_22_method_54_code (6 : Nat) (Option.some Jvm.ClassFile.FieldType.int)) ∈ lw_all := lw_g (lw_at lw_m13 6 rfl) rfl
theorem q3054 : (Jvm.Cond.instanceMethod ({ cls := "MergeJudgeModel", name := "locked", desc := "()I" } : Jvm.MethodName)) ∈ lw_all := lw_g (lw_at lw_m13 8 rfl) rfl
theorem q3055 : (Jvm.Cond.selects "MergeJudgeModel" ({ cls := "MergeJudgeModel", name := "locked", desc := "()I" } : Jvm.MethodName) ({ cls := "MergeJudgeModel", name := "locked", desc := "()I" } : Jvm.MethodName)) ∈ lw_all := lw_g (lw_at lw_m13 9 rfl) rfl
theorem q3056 : (Jvm.Cond.code ({ cls := "MergeJudgeModel", name := "locked", desc := "()I" } : Jvm.MethodName) prog_22_method_66_code (1 : Nat) (Option.some Jvm.ClassFile.FieldType.int)) ∈ lw_all := lw_g (lw_at lw_m13 10 rfl) rfl
theorem q3058 : (Jvm.Cond.instanceMethod ({ cls := "MergeJudgeModel", name := "valid", desc := "(I)I" } : Jvm.MethodName)) ∈ lw_all := lw_g (lw_at lw_m13 12 rfl) rfl
theorem q3059 : (Jvm.Cond.selects "MergeJudgeModel" ({ cls := "MergeJudgeModel", name := "valid", desc := "(I)I" } : Jvm.MethodName) ({ cls := "MergeJudgeModel", name := "valid", desc := "(I)I" } : Jvm.MethodName)) ∈ lw_all := lw_g (lw_at lw_m13 13 rfl) rfl
theorem q3060 : (Jvm.Cond.code ({ cls := "MergeJudgeModel", name := "valid", desc := "(I)I" } : Jvm.MethodName) prog_22_method_67_code (2 : Nat) (Option.some Jvm.ClassFile.FieldType.int)) ∈ lw_all := lw_g (lw_at lw_m13 14 rfl) rfl
theorem q3062 : (Jvm.Cond.instanceMethod ({ cls := "MergeJudgeModel", name := "valids", desc := "()I" } : Jvm.MethodName)) ∈ lw_all := lw_g (lw_at lw_m13 16 rfl) rfl
theorem q3063 : (Jvm.Cond.selects "MergeJudgeModel" ({ cls := "MergeJudgeModel", name := "valids", desc := "()I" } : Jvm.MethodName) ({ cls := "MergeJudgeModel", name := "valids", desc := "()I" } : Jvm.MethodName)) ∈ lw_all := lw_g (lw_at lw_m13 17 rfl) rfl
theorem q3064 : (Jvm.Cond.code ({ cls := "MergeJudgeModel", name := "valids", desc := "()I" } : Jvm.MethodName) prog_22_method_68_code (1 : Nat) (Option.some Jvm.ClassFile.FieldType.int)) ∈ lw_all := lw_g (lw_at lw_m13 18 rfl) rfl
theorem q3065 : (Jvm.Cond.methodLink "MergeJudgeModel" (321 : Nat) ({ cls := "MergeJudgeModel", name := "validMany", desc := "()I" } : Jvm.MethodName)) ∈ lw_all := lw_g (lw_at lw_m13 19 rfl) rfl
theorem q3066 : (Jvm.Cond.privateMethod ({ cls := "MergeJudgeModel", name := "validMany", desc := "()I" } : Jvm.MethodName)) ∈ lw_tbl := lw_at lw_m13 20 rfl
theorem q3067 : (Jvm.Cond.instanceMethod ({ cls := "MergeJudgeModel", name := "validMany", desc := "()I" } : Jvm.MethodName)) ∈ lw_all := lw_g (lw_at lw_m13 21 rfl) rfl
theorem q3068 : (Jvm.Cond.code ({ cls := "MergeJudgeModel", name := "validMany", desc := "()I" } : Jvm.MethodName) prog_22_method_60_code (3 : Nat) (Option.some Jvm.ClassFile.FieldType.int)) ∈ lw_all := lw_g (lw_at lw_m13 22 rfl) rfl
theorem q3070 : (Jvm.Cond.instanceMethod ({ cls := "MergeJudgeModel", name := "breaks", desc := "(I)I" } : Jvm.MethodName)) ∈ lw_all := lw_g (lw_at lw_m13 24 rfl) rfl
theorem q3071 : (Jvm.Cond.selects "MergeJudgeModel" ({ cls := "MergeJudgeModel", name := "breaks", desc := "(I)I" } : Jvm.MethodName) ({ cls := "MergeJudgeModel", name := "breaks", desc := "(I)I" } : Jvm.MethodName)) ∈ lw_all := lw_g (lw_at lw_m13 25 rfl) rfl
theorem q3072 : (Jvm.Cond.code ({ cls := "MergeJudgeModel", name := "breaks", desc := "(I)I" } : Jvm.MethodName) prog_22_method_69_code (2 : Nat) (Option.some Jvm.ClassFile.FieldType.int)) ∈ lw_all := lw_g (lw_at lw_m13 26 rfl) rfl
theorem q3074 : (Jvm.Cond.instanceMethod ({ cls := "MergeJudgeModel", name := "nearest", desc := "(I)I" } : Jvm.MethodName)) ∈ lw_all := lw_g (lw_at lw_m13 28 rfl) rfl
theorem q3075 : (Jvm.Cond.selects "MergeJudgeModel" ({ cls := "MergeJudgeModel", name := "nearest", desc := "(I)I" } : Jvm.MethodName) ({ cls := "MergeJudgeModel", name := "nearest", desc := "(I)I" } : Jvm.MethodName)) ∈ lw_all := lw_g (lw_at lw_m13 29 rfl) rfl
theorem q3076 : (Jvm.Cond.code ({ cls := "MergeJudgeModel", name := "nearest", desc := "(I)I" } : Jvm.MethodName) prog_22_method_70_code (7 : Nat) (Option.some Jvm.ClassFile.FieldType.int)) ∈ lw_all := lw_g (lw_at lw_m13 30 rfl) rfl
theorem q3077 : (Jvm.Cond.constant "MergeJudgeModel" (324 : Nat) (1000000000 : Int32)) ∈ lw_all := lw_g (lw_at lw_m13 31 rfl) rfl
theorem q3079 : (Jvm.Cond.instanceMethod ({ cls := "MergeJudgeModel", name := "hard", desc := "()I" } : Jvm.MethodName)) ∈ lw_all := lw_g (lw_at lw_m13 33 rfl) rfl
theorem q3080 : (Jvm.Cond.selects "MergeJudgeModel" ({ cls := "MergeJudgeModel", name := "hard", desc := "()I" } : Jvm.MethodName) ({ cls := "MergeJudgeModel", name := "hard", desc := "()I" } : Jvm.MethodName)) ∈ lw_all := lw_g (lw_at lw_m13 34 rfl) rfl
theorem q3081 : (Jvm.Cond.code ({ cls := "MergeJudgeModel", name := "hard", desc := "()I" } : Jvm.MethodName) prog_22_method_71_code (6 : Nat) (Option.some Jvm.ClassFile.FieldType.int)) ∈ lw_all := lw_g (lw_at lw_m13 35 rfl) rfl
theorem q3083 : (Jvm.Cond.instanceMethod ({ cls := "MergeJudgeModel", name := "spare", desc := "(I)I" } : Jvm.MethodName)) ∈ lw_all := lw_g (lw_at lw_m13 37 rfl) rfl
theorem q3084 : (Jvm.Cond.selects "MergeJudgeModel" ({ cls := "MergeJudgeModel", name := "spare", desc := "(I)I" } : Jvm.MethodName) ({ cls := "MergeJudgeModel", name := "spare", desc := "(I)I" } : Jvm.MethodName)) ∈ lw_all := lw_g (lw_at lw_m13 38 rfl) rfl
theorem q3085 : (Jvm.Cond.code ({ cls := "MergeJudgeModel", name := "spare", desc := "(I)I" } : Jvm.MethodName) prog_22_method_72_code (3 : Nat) (Option.some Jvm.ClassFile.FieldType.int)) ∈ lw_all := lw_g (lw_at lw_m13 39 rfl) rfl
theorem q3087 : (Jvm.Cond.instanceMethod ({ cls := "MergeJudgeModel", name := "room", desc := "(I)I" } : Jvm.MethodName)) ∈ lw_all := lw_g (lw_at lw_m13 41 rfl) rfl
theorem q3088 : (Jvm.Cond.selects "MergeJudgeModel" ({ cls := "MergeJudgeModel", name := "room", desc := "(I)I" } : Jvm.MethodName) ({ cls := "MergeJudgeModel", name := "room", desc := "(I)I" } : Jvm.MethodName)) ∈ lw_all := lw_g (lw_at lw_m13 42 rfl) rfl
theorem q3089 : (Jvm.Cond.code ({ cls := "MergeJudgeModel", name := "room", desc := "(I)I" } : Jvm.MethodName) prog_22_method_73_code (4 : Nat) (Option.some Jvm.ClassFile.FieldType.int)) ∈ lw_all := lw_g (lw_at lw_m13 43 rfl) rfl
theorem q3091 : (Jvm.Cond.instanceMethod ({ cls := "MergeJudgeModel", name := "does", desc := "(II)I" } : Jvm.MethodName)) ∈ lw_all := lw_g (lw_at lw_m13 45 rfl) rfl
theorem q3092 : (Jvm.Cond.selects "MergeJudgeModel" ({ cls := "MergeJudgeModel", name := "does", desc := "(II)I" } : Jvm.MethodName) ({ cls := "MergeJudgeModel", name := "does", desc := "(II)I" } : Jvm.MethodName)) ∈ lw_all := lw_g (lw_at lw_m13 46 rfl) rfl
theorem q3093 : (Jvm.Cond.code ({ cls := "MergeJudgeModel", name := "does", desc := "(II)I" } : Jvm.MethodName) prog_22_method_74_code (3 : Nat) (Option.some Jvm.ClassFile.FieldType.int)) ∈ lw_all := lw_g (lw_at lw_m13 47 rfl) rfl
theorem q3094 : (Jvm.Cond.methodLink "MergeJudgeModel" (325 : Nat) ({ cls := "MergeJudgeModel", name := "goesTo", desc := "(II)I" } : Jvm.MethodName)) ∈ lw_all := lw_g (lw_at lw_m13 48 rfl) rfl
theorem q3095 : (Jvm.Cond.privateMethod ({ cls := "MergeJudgeModel", name := "goesTo", desc := "(II)I" } : Jvm.MethodName)) ∈ lw_tbl := lw_at lw_m13 49 rfl
theorem q3096 : (Jvm.Cond.instanceMethod ({ cls := "MergeJudgeModel", name := "goesTo", desc := "(II)I" } : Jvm.MethodName)) ∈ lw_all := lw_g (lw_at lw_m13 50 rfl) rfl
theorem q3097 : (Jvm.Cond.code ({ cls := "MergeJudgeModel", name := "goesTo", desc := "(II)I" } : Jvm.MethodName) prog_22_method_58_code (3 : Nat) (Option.some Jvm.ClassFile.FieldType.int)) ∈ lw_all := lw_g (lw_at lw_m13 51 rfl) rfl
theorem q3099 : (Jvm.Cond.instanceMethod ({ cls := "MergeJudgeModel", name := "works", desc := "(I)I" } : Jvm.MethodName)) ∈ lw_all := lw_g (lw_at lw_m13 53 rfl) rfl
theorem q3100 : (Jvm.Cond.selects "MergeJudgeModel" ({ cls := "MergeJudgeModel", name := "works", desc := "(I)I" } : Jvm.MethodName) ({ cls := "MergeJudgeModel", name := "works", desc := "(I)I" } : Jvm.MethodName)) ∈ lw_all := lw_g (lw_at lw_m13 54 rfl) rfl
theorem q3101 : (Jvm.Cond.code ({ cls := "MergeJudgeModel", name := "works", desc := "(I)I" } : Jvm.MethodName) prog_22_method_76_code (2 : Nat) (Option.some Jvm.ClassFile.FieldType.int)) ∈ lw_all := lw_g (lw_at lw_m13 55 rfl) rfl
theorem q3102 : (Jvm.Cond.methodLink "MergeJudgeModel" (328 : Nat) ({ cls := "MergeJudgeModel", name := "worksOf", desc := "(I)I" } : Jvm.MethodName)) ∈ lw_all := lw_g (lw_at lw_m13 56 rfl) rfl
theorem q3103 : (Jvm.Cond.privateMethod ({ cls := "MergeJudgeModel", name := "worksOf", desc := "(I)I" } : Jvm.MethodName)) ∈ lw_tbl := lw_at lw_m13 57 rfl
theorem q3104 : (Jvm.Cond.instanceMethod ({ cls := "MergeJudgeModel", name := "worksOf", desc := "(I)I" } : Jvm.MethodName)) ∈ lw_all := lw_g (lw_at lw_m13 58 rfl) rfl
theorem q3105 : (Jvm.Cond.code ({ cls := "MergeJudgeModel", name := "worksOf", desc := "(I)I" } : Jvm.MethodName) prog_22_method_75_code (4 : Nat) (Option.some Jvm.ClassFile.FieldType.int)) ∈ lw_all := lw_g (lw_at lw_m13 59 rfl) rfl
theorem q3107 : (Jvm.Cond.instanceMethod ({ cls := "MergeJudgeModel", name := "opens", desc := "(I)I" } : Jvm.MethodName)) ∈ lw_all := lw_g (lw_at lw_m13 61 rfl) rfl
theorem q3108 : (Jvm.Cond.selects "MergeJudgeModel" ({ cls := "MergeJudgeModel", name := "opens", desc := "(I)I" } : Jvm.MethodName) ({ cls := "MergeJudgeModel", name := "opens", desc := "(I)I" } : Jvm.MethodName)) ∈ lw_all := lw_g (lw_at lw_m13 62 rfl) rfl
theorem q3109 : (Jvm.Cond.code ({ cls := "MergeJudgeModel", name := "opens", desc := "(I)I" } : Jvm.MethodName) prog_22_method_78_code (2 : Nat) (Option.some Jvm.ClassFile.FieldType.int)) ∈ lw_all := lw_g (lw_at lw_m13 63 rfl) rfl
theorem q3110 : (Jvm.Cond.methodLink "MergeJudgeModel" (331 : Nat) ({ cls := "MergeJudgeModel", name := "opensOf", desc := "(I)I" } : Jvm.MethodName)) ∈ lw_all := lw_g (lw_at lw_m13 64 rfl) rfl
theorem q3111 : (Jvm.Cond.privateMethod ({ cls := "MergeJudgeModel", name := "opensOf", desc := "(I)I" } : Jvm.MethodName)) ∈ lw_tbl := lw_at lw_m13 65 rfl
theorem q3112 : (Jvm.Cond.instanceMethod ({ cls := "MergeJudgeModel", name := "opensOf", desc := "(I)I" } : Jvm.MethodName)) ∈ lw_all := lw_g (lw_at lw_m13 66 rfl) rfl
theorem q3113 : (Jvm.Cond.code ({ cls := "MergeJudgeModel", name := "opensOf", desc := "(I)I" } : Jvm.MethodName) prog_22_method_77_code (4 : Nat) (Option.some Jvm.ClassFile.FieldType.int)) ∈ lw_all := lw_g (lw_at lw_m13 67 rfl) rfl
theorem q3115 : (Jvm.Cond.instanceMethod ({ cls := "MergeJudgeModel", name := "dead", desc := "()I" } : Jvm.MethodName)) ∈ lw_all := lw_g (lw_at lw_m13 69 rfl) rfl
theorem q3116 : (Jvm.Cond.selects "MergeJudgeModel" ({ cls := "MergeJudgeModel", name := "dead", desc := "()I" } : Jvm.MethodName) ({ cls := "MergeJudgeModel", name := "dead", desc := "()I" } : Jvm.MethodName)) ∈ lw_all := lw_g (lw_at lw_m13 70 rfl) rfl
theorem q3117 : (Jvm.Cond.code ({ cls := "MergeJudgeModel", name := "dead", desc := "()I" } : Jvm.MethodName) prog_22_method_79_code (3 : Nat) (Option.some Jvm.ClassFile.FieldType.int)) ∈ lw_all := lw_g (lw_at lw_m13 71 rfl) rfl
theorem q3119 : (Jvm.Cond.instanceMethod ({ cls := "MergeJudgeModel", name := "commute", desc := "(II)I" } : Jvm.MethodName)) ∈ lw_all := lw_g (lw_at lw_m13 73 rfl) rfl
theorem q3120 : (Jvm.Cond.selects "MergeJudgeModel" ({ cls := "MergeJudgeModel", name := "commute", desc := "(II)I" } : Jvm.MethodName) ({ cls := "MergeJudgeModel", name := "commute", desc := "(II)I" } : Jvm.MethodName)) ∈ lw_all := lw_g (lw_at lw_m13 74 rfl) rfl
theorem q3121 : (Jvm.Cond.code ({ cls := "MergeJudgeModel", name := "commute", desc := "(II)I" } : Jvm.MethodName) prog_22_method_81_code (3 : Nat) (Option.some Jvm.ClassFile.FieldType.int)) ∈ lw_all := lw_g (lw_at lw_m13 75 rfl) rfl
theorem q3122 : (Jvm.Cond.methodLink "MergeJudgeModel" (334 : Nat) ({ cls := "MergeJudgeModel", name := "areCommuting", desc := "(II)Z" } : Jvm.MethodName)) ∈ lw_all := lw_g (lw_at lw_m13 76 rfl) rfl
theorem q3123 : (Jvm.Cond.privateMethod ({ cls := "MergeJudgeModel", name := "areCommuting", desc := "(II)Z" } : Jvm.MethodName)) ∈ lw_tbl := lw_at lw_m13 77 rfl
theorem q3124 : (Jvm.Cond.instanceMethod ({ cls := "MergeJudgeModel", name := "areCommuting", desc := "(II)Z" } : Jvm.MethodName)) ∈ lw_all := lw_g (lw_at lw_m13 78 rfl) rfl
theorem q3125 : (Jvm.Cond.code ({ cls := "MergeJudgeModel", name := "areCommuting", desc := "(II)Z" } : Jvm.MethodName) prog_22_method_80_code (7 : Nat) (Option.some Jvm.ClassFile.FieldType.boolean)) ∈ lw_all := lw_g (lw_at lw_m13 79 rfl) rfl
theorem q3127 : (Jvm.Cond.instanceMethod ({ cls := "MergeJudgeModel", name := "table", desc := "()I" } : Jvm.MethodName)) ∈ lw_all := lw_g (lw_at lw_m13 81 rfl) rfl
theorem q3128 : (Jvm.Cond.selects "MergeJudgeModel" ({ cls := "MergeJudgeModel", name := "table", desc := "()I" } : Jvm.MethodName) ({ cls := "MergeJudgeModel", name := "table", desc := "()I" } : Jvm.MethodName)) ∈ lw_all := lw_g (lw_at lw_m13 82 rfl) rfl
theorem q3129 : (Jvm.Cond.code ({ cls := "MergeJudgeModel", name := "table", desc := "()I" } : Jvm.MethodName) prog_22_method_82_code (4 : Nat) (Option.some Jvm.ClassFile.FieldType.int)) ∈ lw_all := lw_g (lw_at lw_m13 83 rfl) rfl
theorem q3131 : (Jvm.Cond.instanceMethod ({ cls := "MergeJudgeModel", name := "merge", desc := "(III)I" } : Jvm.MethodName)) ∈ lw_all := lw_g (lw_at lw_m13 85 rfl) rfl
theorem q3132 : (Jvm.Cond.selects "MergeJudgeModel" ({ cls := "MergeJudgeModel", name := "merge", desc := "(III)I" } : Jvm.MethodName) ({ cls := "MergeJudgeModel", name := "merge", desc := "(III)I" } : Jvm.MethodName)) ∈ lw_all := lw_g (lw_at lw_m13 86 rfl) rfl
theorem q3133 : (Jvm.Cond.code ({ cls := "MergeJudgeModel", name := "merge", desc := "(III)I" } : Jvm.MethodName) prog_22_method_86_code (4 : Nat) (Option.some Jvm.ClassFile.FieldType.int)) ∈ lw_all := lw_g (lw_at lw_m13 87 rfl) rfl
theorem q3134 : (Jvm.Cond.methodLink "MergeJudgeModel" (344 : Nat) ({ cls := "MergeJudgeModel", name := "mergeOf", desc := "(III)I" } : Jvm.MethodName)) ∈ lw_all := lw_g (lw_at lw_m13 88 rfl) rfl
theorem q3135 : (Jvm.Cond.privateMethod ({ cls := "MergeJudgeModel", name := "mergeOf", desc := "(III)I" } : Jvm.MethodName)) ∈ lw_tbl := lw_at lw_m13 89 rfl
theorem q3136 : (Jvm.Cond.instanceMethod ({ cls := "MergeJudgeModel", name := "mergeOf", desc := "(III)I" } : Jvm.MethodName)) ∈ lw_all := lw_g (lw_at lw_m13 90 rfl) rfl
theorem q3137 : (Jvm.Cond.code ({ cls := "MergeJudgeModel", name := "mergeOf", desc := "(III)I" } : Jvm.MethodName) prog_22_method_85_code (6 : Nat) (Option.some Jvm.ClassFile.FieldType.int)) ∈ lw_all := lw_g (lw_at lw_m13 91 rfl) rfl
theorem q3138 : (Jvm.Cond.methodLink "MergeJudgeModel" (340 : Nat) ({ cls := "MergeJudgeModel", name := "mergedOf", desc := "(IIII)I" } : Jvm.MethodName)) ∈ lw_all := lw_g (lw_at lw_m13 92 rfl) rfl
theorem q3139 : (Jvm.Cond.privateMethod ({ cls := "MergeJudgeModel", name := "mergedOf", desc := "(IIII)I" } : Jvm.MethodName)) ∈ lw_tbl := lw_at lw_m13 93 rfl
theorem q3140 : (Jvm.Cond.instanceMethod ({ cls := "MergeJudgeModel", name := "mergedOf", desc := "(IIII)I" } : Jvm.MethodName)) ∈ lw_all := lw_g (lw_at lw_m13 94 rfl) rfl
theorem q3141 : (Jvm.Cond.code ({ cls := "MergeJudgeModel", name := "mergedOf", desc := "(IIII)I" } : Jvm.MethodName) prog_22_method_84_code (5 : Nat) (Option.some Jvm.ClassFile.FieldType.int)) ∈ lw_all := lw_g (lw_at lw_m13 95 rfl) rfl
theorem q3142 : (Jvm.Cond.methodLink "MergeJudgeModel" (337 : Nat) ({ cls := "MergeJudgeModel", name := "lateOf", desc := "(III)I" } : Jvm.MethodName)) ∈ lw_all := lw_g (lw_at lw_m13 96 rfl) rfl
theorem q3143 : (Jvm.Cond.privateMethod ({ cls := "MergeJudgeModel", name := "lateOf", desc := "(III)I" } : Jvm.MethodName)) ∈ lw_tbl := lw_at lw_m13 97 rfl
theorem q3144 : (Jvm.Cond.instanceMethod ({ cls := "MergeJudgeModel", name := "lateOf", desc := "(III)I" } : Jvm.MethodName)) ∈ lw_all := lw_g (lw_at lw_m13 98 rfl) rfl
theorem q3145 : (Jvm.Cond.code ({ cls := "MergeJudgeModel", name := "lateOf", desc := "(III)I" } : Jvm.MethodName) prog_22_method_83_code (4 : Nat) (Option.some Jvm.ClassFile.FieldType.int)) ∈ lw_all := lw_g (lw_at lw_m13 99 rfl) rfl
theorem q3147 : (Jvm.Cond.instanceMethod ({ cls := "MergeJudgeModel", name := "even", desc := "(III)I" } : Jvm.MethodName)) ∈ lw_all := lw_g (lw_at lw_m13 101 rfl) rfl
theorem q3148 : (Jvm.Cond.selects "MergeJudgeModel" ({ cls := "MergeJudgeModel", name := "even", desc := "(III)I" } : Jvm.MethodName) ({ cls := "MergeJudgeModel", name := "even", desc := "(III)I" } : Jvm.MethodName)) ∈ lw_all := lw_g (lw_at lw_m13 102 rfl) rfl
theorem q3149 : (Jvm.Cond.code ({ cls := "MergeJudgeModel", name := "even", desc := "(III)I" } : Jvm.MethodName) prog_22_method_87_code (4 : Nat) (Option.some Jvm.ClassFile.FieldType.int)) ∈ lw_all := lw_g (lw_at lw_m13 103 rfl) rfl
theorem q3151 : (Jvm.Cond.instanceMethod ({ cls := "MergeJudgeModel", name := "clashes", desc := "(II)I" } : Jvm.MethodName)) ∈ lw_all := lw_g (lw_at lw_m13 105 rfl) rfl
theorem q3152 : (Jvm.Cond.selects "MergeJudgeModel" ({ cls := "MergeJudgeModel", name := "clashes", desc := "(II)I" } : Jvm.MethodName) ({ cls := "MergeJudgeModel", name := "clashes", desc := "(II)I" } : Jvm.MethodName)) ∈ lw_all := lw_g (lw_at lw_m13 106 rfl) rfl
theorem q3153 : (Jvm.Cond.code ({ cls := "MergeJudgeModel", name := "clashes", desc := "(II)I" } : Jvm.MethodName) prog_22_method_88_code (5 : Nat) (Option.some Jvm.ClassFile.FieldType.int)) ∈ lw_all := lw_g (lw_at lw_m13 107 rfl) rfl
theorem q3155 : (Jvm.Cond.instanceMethod ({ cls := "MergeJudgeModel", name := "reach", desc := "(II)I" } : Jvm.MethodName)) ∈ lw_all := lw_g (lw_at lw_m13 109 rfl) rfl
theorem q3156 : (Jvm.Cond.selects "MergeJudgeModel" ({ cls := "MergeJudgeModel", name := "reach", desc := "(II)I" } : Jvm.MethodName) ({ cls := "MergeJudgeModel", name := "reach", desc := "(II)I" } : Jvm.MethodName)) ∈ lw_all := lw_g (lw_at lw_m13 110 rfl) rfl
theorem q3157 : (Jvm.Cond.code ({ cls := "MergeJudgeModel", name := "reach", desc := "(II)I" } : Jvm.MethodName) prog_22_method_94_code (3 : Nat) (Option.some Jvm.ClassFile.FieldType.int)) ∈ lw_all := lw_g (lw_at lw_m13 111 rfl) rfl
theorem q3158 : (Jvm.Cond.methodLink "MergeJudgeModel" (354 : Nat) ({ cls := "MergeJudgeModel", name := "asksSides", desc := "(I)Z" } : Jvm.MethodName)) ∈ lw_all := lw_g (lw_at lw_m13 112 rfl) rfl
theorem q3159 : (Jvm.Cond.privateMethod ({ cls := "MergeJudgeModel", name := "asksSides", desc := "(I)Z" } : Jvm.MethodName)) ∈ lw_tbl := lw_at lw_m13 113 rfl
theorem q3160 : (Jvm.Cond.instanceMethod ({ cls := "MergeJudgeModel", name := "asksSides", desc := "(I)Z" } : Jvm.MethodName)) ∈ lw_all := lw_g (lw_at lw_m13 114 rfl) rfl
theorem q3161 : (Jvm.Cond.code ({ cls := "MergeJudgeModel", name := "asksSides", desc := "(I)Z" } : Jvm.MethodName) prog_22_method_93_code (2 : Nat) (Option.some Jvm.ClassFile.FieldType.boolean)) ∈ lw_all := lw_g (lw_at lw_m13 115 rfl) rfl
theorem q3162 : (Jvm.Cond.methodLink "MergeJudgeModel" (351 : Nat) ({ cls := "MergeJudgeModel", name := "laySides", desc := "(I)V" } : Jvm.MethodName)) ∈ lw_all := lw_g (lw_at lw_m13 116 rfl) rfl
theorem q3163 : (Jvm.Cond.privateMethod ({ cls := "MergeJudgeModel", name := "laySides", desc := "(I)V" } : Jvm.MethodName)) ∈ lw_tbl := lw_at lw_m13 117 rfl
theorem q3164 : (Jvm.Cond.instanceMethod ({ cls := "MergeJudgeModel", name := "laySides", desc := "(I)V" } : Jvm.MethodName)) ∈ lw_all := lw_g (lw_at lw_m13 118 rfl) rfl
theorem q3165 : (Jvm.Cond.code ({ cls := "MergeJudgeModel", name := "laySides", desc := "(I)V" } : Jvm.MethodName) prog_22_method_90_code (2 : Nat) (Option.none : Option Jvm.ClassFile.FieldType)) ∈ lw_all := lw_g (lw_at lw_m13 119 rfl) rfl
theorem q3166 : (Jvm.Cond.methodLink "MergeJudgeModel" (347 : Nat) ({ cls := "MergeJudgeModel", name := "layFar", desc := "([III)V" } : Jvm.MethodName)) ∈ lw_all := lw_g (lw_at lw_m13 120 rfl) rfl
theorem q3167 : (Jvm.Cond.privateMethod ({ cls := "MergeJudgeModel", name := "layFar", desc := "([III)V" } : Jvm.MethodName)) ∈ lw_tbl := lw_at lw_m13 121 rfl
theorem q3168 : (Jvm.Cond.instanceMethod ({ cls := "MergeJudgeModel", name := "layFar", desc := "([III)V" } : Jvm.MethodName)) ∈ lw_all := lw_g (lw_at lw_m13 122 rfl) rfl
theorem q3169 : (Jvm.Cond.code ({ cls := "MergeJudgeModel", name := "layFar", desc := "([III)V" } : Jvm.MethodName) prog_22_method_89_code (7 : Nat) (Option.none : Option Jvm.ClassFile.FieldType)) ∈ lw_all := lw_g (lw_at lw_m13 123 rfl) rfl
theorem q3170 : (Jvm.Cond.methodLink "MergeJudgeModel" (357 : Nat) ({ cls := "MergeJudgeModel", name := "isDepth", desc := "(I)Z" } : Jvm.MethodName)) ∈ lw_all := lw_g (lw_at lw_m13 124 rfl) rfl
theorem q3171 : (Jvm.Cond.static ({ cls := "MergeJudgeModel", name := "isDepth", desc := "(I)Z" } : Jvm.MethodName)) ∈ lw_all := lw_g (lw_at lw_m13 125 rfl) rfl
theorem q3172 : (Jvm.Cond.code ({ cls := "MergeJudgeModel", name := "isDepth", desc := "(I)Z" } : Jvm.MethodName) prog_22_method_17_code (1 : Nat) (Option.some Jvm.ClassFile.FieldType.boolean)) ∈ lw_all := lw_g (lw_at lw_m13 126 rfl) rfl
theorem q3173 : (Jvm.Cond.methodLink "MergeJudgeModel" (360 : Nat) ({ cls := "MergeJudgeModel", name := "within", desc := "([II)I" } : Jvm.MethodName)) ∈ lw_all := lw_g (lw_at lw_m13 127 rfl) rfl
theorem q3174 : (Jvm.Cond.static ({ cls := "MergeJudgeModel", name := "within", desc := "([II)I" } : Jvm.MethodName)) ∈ lw_all := lw_g (lw_at lw_m13 128 rfl) rfl
theorem q3175 : (Jvm.Cond.code ({ cls := "MergeJudgeModel", name := "within", desc := "([II)I" } : Jvm.MethodName) prog_22_method_91_code (4 : Nat) (Option.some Jvm.ClassFile.FieldType.int)) ∈ lw_all := lw_g (lw_at lw_m13 129 rfl) rfl
theorem q3176 : (Jvm.Cond.methodLink "MergeJudgeModel" (364 : Nat) ({ cls := "MergeJudgeModel", name := "orNone", desc := "(II)I" } : Jvm.MethodName)) ∈ lw_all := lw_g (lw_at lw_m13 130 rfl) rfl
theorem q3177 : (Jvm.Cond.privateMethod ({ cls := "MergeJudgeModel", name := "orNone", desc := "(II)I" } : Jvm.MethodName)) ∈ lw_tbl := lw_at lw_m13 131 rfl
theorem q3178 : (Jvm.Cond.instanceMethod ({ cls := "MergeJudgeModel", name := "orNone", desc := "(II)I" } : Jvm.MethodName)) ∈ lw_all := lw_g (lw_at lw_m13 132 rfl) rfl
theorem q3179 : (Jvm.Cond.code ({ cls := "MergeJudgeModel", name := "orNone", desc := "(II)I" } : Jvm.MethodName) prog_22_method_92_code (3 : Nat) (Option.some Jvm.ClassFile.FieldType.int)) ∈ lw_all := lw_g (lw_at lw_m13 133 rfl) rfl
theorem q3181 : (Jvm.Cond.instanceMethod ({ cls := "MergeJudgeModel", name := "freely", desc := "(II)I" } : Jvm.MethodName)) ∈ lw_all := lw_g (lw_at lw_m13 135 rfl) rfl
theorem q3182 : (Jvm.Cond.selects "MergeJudgeModel" ({ cls := "MergeJudgeModel", name := "freely", desc := "(II)I" } : Jvm.MethodName) ({ cls := "MergeJudgeModel", name := "freely", desc := "(II)I" } : Jvm.MethodName)) ∈ lw_all := lw_g (lw_at lw_m13 136 rfl) rfl
theorem q3183 : (Jvm.Cond.code ({ cls := "MergeJudgeModel", name := "freely", desc := "(II)I" } : Jvm.MethodName) prog_22_method_95_code (3 : Nat) (Option.some Jvm.ClassFile.FieldType.int)) ∈ lw_all := lw_g (lw_at lw_m13 137 rfl) rfl
theorem q3185 : (Jvm.Cond.instanceMethod ({ cls := "MergeJudgeModel", name := "far", desc := "(II)I" } : Jvm.MethodName)) ∈ lw_all := lw_g (lw_at lw_m13 139 rfl) rfl
theorem q3186 : (Jvm.Cond.selects "MergeJudgeModel" ({ cls := "MergeJudgeModel", name := "far", desc := "(II)I" } : Jvm.MethodName) ({ cls := "MergeJudgeModel", name := "far", desc := "(II)I" } : Jvm.MethodName)) ∈ lw_all := lw_g (lw_at lw_m13 140 rfl) rfl
theorem q3187 : (Jvm.Cond.code ({ cls := "MergeJudgeModel", name := "far", desc := "(II)I" } : Jvm.MethodName) prog_22_method_96_code (3 : Nat) (Option.some Jvm.ClassFile.FieldType.int)) ∈ lw_all := lw_g (lw_at lw_m13 141 rfl) rfl
theorem q3189 : (Jvm.Cond.instanceMethod ({ cls := "MergeJudgeModel", name := "step", desc := "(II)I" } : Jvm.MethodName)) ∈ lw_all := lw_g (lw_at lw_m13 143 rfl) rfl
theorem q3190 : (Jvm.Cond.selects "MergeJudgeModel" ({ cls := "MergeJudgeModel", name := "step", desc := "(II)I" } : Jvm.MethodName) ({ cls := "MergeJudgeModel", name := "step", desc := "(II)I" } : Jvm.MethodName)) ∈ lw_all := lw_g (lw_at lw_m13 144 rfl) rfl
theorem q3191 : (Jvm.Cond.code ({ cls := "MergeJudgeModel", name := "step", desc := "(II)I" } : Jvm.MethodName) prog_22_method_97_code (5 : Nat) (Option.some Jvm.ClassFile.FieldType.int)) ∈ lw_all := lw_g (lw_at lw_m13 145 rfl) rfl
theorem q3193 : (Jvm.Cond.instanceMethod ({ cls := "MergeJudgeModel", name := "asked", desc := "(II)I" } : Jvm.MethodName)) ∈ lw_all := lw_g (lw_at lw_m13 147 rfl) rfl
theorem q3194 : (Jvm.Cond.selects "MergeJudgeModel" ({ cls := "MergeJudgeModel", name := "asked", desc := "(II)I" } : Jvm.MethodName) ({ cls := "MergeJudgeModel", name := "asked", desc := "(II)I" } : Jvm.MethodName)) ∈ lw_all := lw_g (lw_at lw_m13 148 rfl) rfl
theorem q3195 : (Jvm.Cond.code ({ cls := "MergeJudgeModel", name := "asked", desc := "(II)I" } : Jvm.MethodName) prog_22_method_98_code (6 : Nat) (Option.some Jvm.ClassFile.FieldType.int)) ∈ lw_all := lw_g (lw_at lw_m13 149 rfl) rfl
theorem q3197 : (Jvm.Cond.instanceMethod ({ cls := "MergeJudgeModel", name := "bad", desc := "(II)I" } : Jvm.MethodName)) ∈ lw_all := lw_g (lw_at lw_m13 151 rfl) rfl
theorem q3198 : (Jvm.Cond.selects "MergeJudgeModel" ({ cls := "MergeJudgeModel", name := "bad", desc := "(II)I" } : Jvm.MethodName) ({ cls := "MergeJudgeModel", name := "bad", desc := "(II)I" } : Jvm.MethodName)) ∈ lw_all := lw_g (lw_at lw_m13 152 rfl) rfl
theorem q3199 : (Jvm.Cond.code ({ cls := "MergeJudgeModel", name := "bad", desc := "(II)I" } : Jvm.MethodName) prog_22_method_105_code (3 : Nat) (Option.some Jvm.ClassFile.FieldType.int)) ∈ lw_all := lw_g (lw_at lw_m13 153 rfl) rfl
theorem q3200 : (Jvm.Cond.methodLink "MergeJudgeModel" (396 : Nat) ({ cls := "MergeJudgeModel", name := "breaksFrom", desc := "(II)I" } : Jvm.MethodName)) ∈ lw_all := lw_g (lw_at lw_m13 154 rfl) rfl
theorem q3201 : (Jvm.Cond.privateMethod ({ cls := "MergeJudgeModel", name := "breaksFrom", desc := "(II)I" } : Jvm.MethodName)) ∈ lw_tbl := lw_at lw_m13 155 rfl
theorem q3202 : (Jvm.Cond.instanceMethod ({ cls := "MergeJudgeModel", name := "breaksFrom", desc := "(II)I" } : Jvm.MethodName)) ∈ lw_all := lw_g (lw_at lw_m13 156 rfl) rfl
theorem q3203 : (Jvm.Cond.code ({ cls := "MergeJudgeModel", name := "breaksFrom", desc := "(II)I" } : Jvm.MethodName) prog_22_method_102_code (3 : Nat) (Option.some Jvm.ClassFile.FieldType.int)) ∈ lw_all := lw_g (lw_at lw_m13 157 rfl) rfl
theorem q3204 : (Jvm.Cond.methodLink "MergeJudgeModel" (386 : Nat) ({ cls := "MergeJudgeModel", name := "begins", desc := "()V" } : Jvm.MethodName)) ∈ lw_all := lw_g (lw_at lw_m13 158 rfl) rfl
theorem q3205 : (Jvm.Cond.privateMethod ({ cls := "MergeJudgeModel", name := "begins", desc := "()V" } : Jvm.MethodName)) ∈ lw_tbl := lw_at lw_m13 159 rfl
theorem q3206 : (Jvm.Cond.instanceMethod ({ cls := "MergeJudgeModel", name := "begins", desc := "()V" } : Jvm.MethodName)) ∈ lw_all := lw_g (lw_at lw_m13 160 rfl) rfl
theorem q3207 : (Jvm.Cond.code ({ cls := "MergeJudgeModel", name := "begins", desc := "()V" } : Jvm.MethodName) prog_22_method_101_code (2 : Nat) (Option.none : Option Jvm.ClassFile.FieldType)) ∈ lw_all := lw_g (lw_at lw_m13 161 rfl) rfl
theorem q3208 : (Jvm.Cond.methodLink "MergeJudgeModel" (389 : Nat) ({ cls := "MergeJudgeModel", name := "findFrom", desc := "(II)V" } : Jvm.MethodName)) ∈ lw_all := lw_g (lw_at lw_m13 162 rfl) rfl
theorem q3209 : (Jvm.Cond.privateMethod ({ cls := "MergeJudgeModel", name := "findFrom", desc := "(II)V" } : Jvm.MethodName)) ∈ lw_tbl := lw_at lw_m13 163 rfl
theorem q3210 : (Jvm.Cond.instanceMethod ({ cls := "MergeJudgeModel", name := "findFrom", desc := "(II)V" } : Jvm.MethodName)) ∈ lw_all := lw_g (lw_at lw_m13 164 rfl) rfl
theorem q3211 : (Jvm.Cond.code ({ cls := "MergeJudgeModel", name := "findFrom", desc := "(II)V" } : Jvm.MethodName) prog_22_method_100_code (5 : Nat) (Option.none : Option Jvm.ClassFile.FieldType)) ∈ lw_all := lw_g (lw_at lw_m13 165 rfl) rfl
theorem q3212 : (Jvm.Cond.methodLink "MergeJudgeModel" (382 : Nat) ({ cls := "MergeJudgeModel", name := "keepBreak", desc := "(III)V" } : Jvm.MethodName)) ∈ lw_all := lw_g (lw_at lw_m13 166 rfl) rfl
theorem q3213 : (Jvm.Cond.privateMethod ({ cls := "MergeJudgeModel", name := "keepBreak", desc := "(III)V" } : Jvm.MethodName)) ∈ lw_tbl := lw_at lw_m13 167 rfl
theorem q3214 : (Jvm.Cond.instanceMethod ({ cls := "MergeJudgeModel", name := "keepBreak", desc := "(III)V" } : Jvm.MethodName)) ∈ lw_all := lw_g (lw_at lw_m13 168 rfl) rfl
theorem q3215 : (Jvm.Cond.code ({ cls := "MergeJudgeModel", name := "keepBreak", desc := "(III)V" } : Jvm.MethodName) prog_22_method_99_code (6 : Nat) (Option.none : Option Jvm.ClassFile.FieldType)) ∈ lw_all := lw_g (lw_at lw_m13 169 rfl) rfl
theorem q3217 : (Jvm.Cond.instanceMethod ({ cls := "MergeJudgeModel", name := "all", desc := "(I)I" } : Jvm.MethodName)) ∈ lw_all := lw_g (lw_at lw_m13 171 rfl) rfl
theorem q3218 : (Jvm.Cond.selects "MergeJudgeModel" ({ cls := "MergeJudgeModel", name := "all", desc := "(I)I" } : Jvm.MethodName) ({ cls := "MergeJudgeModel", name := "all", desc := "(I)I" } : Jvm.MethodName)) ∈ lw_all := lw_g (lw_at lw_m13 172 rfl) rfl
theorem q3219 : (Jvm.Cond.code ({ cls := "MergeJudgeModel", name := "all", desc := "(I)I" } : Jvm.MethodName) prog_22_method_106_code (2 : Nat) (Option.some Jvm.ClassFile.FieldType.int)) ∈ lw_all := lw_g (lw_at lw_m13 173 rfl) rfl
theorem q3220 : (Jvm.Cond.methodLink "MergeJudgeModel" (399 : Nat) ({ cls := "MergeJudgeModel", name := "asksIn", desc := "(I)Z" } : Jvm.MethodName)) ∈ lw_all := lw_g (lw_at lw_m13 174 rfl) rfl
theorem q3221 : (Jvm.Cond.privateMethod ({ cls := "MergeJudgeModel", name := "asksIn", desc := "(I)Z" } : Jvm.MethodName)) ∈ lw_tbl := lw_at lw_m13 175 rfl
theorem q3222 : (Jvm.Cond.instanceMethod ({ cls := "MergeJudgeModel", name := "asksIn", desc := "(I)Z" } : Jvm.MethodName)) ∈ lw_all := lw_g (lw_at lw_m13 176 rfl) rfl
theorem q3223 : (Jvm.Cond.code ({ cls := "MergeJudgeModel", name := "asksIn", desc := "(I)Z" } : Jvm.MethodName) prog_22_method_104_code (2 : Nat) (Option.some Jvm.ClassFile.FieldType.boolean)) ∈ lw_all := lw_g (lw_at lw_m13 177 rfl) rfl
theorem q3224 : (Jvm.Cond.methodLink "MergeJudgeModel" (393 : Nat) ({ cls := "MergeJudgeModel", name := "breaksIn", desc := "(I)I" } : Jvm.MethodName)) ∈ lw_all := lw_g (lw_at lw_m13 178 rfl) rfl
theorem q3225 : (Jvm.Cond.privateMethod ({ cls := "MergeJudgeModel", name := "breaksIn", desc := "(I)I" } : Jvm.MethodName)) ∈ lw_tbl := lw_at lw_m13 179 rfl
theorem q3226 : (Jvm.Cond.instanceMethod ({ cls := "MergeJudgeModel", name := "breaksIn", desc := "(I)I" } : Jvm.MethodName)) ∈ lw_all := lw_g (lw_at lw_m13 180 rfl) rfl
theorem q3227 : (Jvm.Cond.code ({ cls := "MergeJudgeModel", name := "breaksIn", desc := "(I)I" } : Jvm.MethodName) prog_22_method_103_code (3 : Nat) (Option.some Jvm.ClassFile.FieldType.int)) ∈ lw_all := lw_g (lw_at lw_m13 181 rfl) rfl
theorem q3229 : (Jvm.Cond.instanceMethod ({ cls := "MergeJudgeModel", name := "pairs", desc := "(I)I" } : Jvm.MethodName)) ∈ lw_all := lw_g (lw_at lw_m13 183 rfl) rfl
theorem q3230 : (Jvm.Cond.selects "MergeJudgeModel" ({ cls := "MergeJudgeModel", name := "pairs", desc := "(I)I" } : Jvm.MethodName) ({ cls := "MergeJudgeModel", name := "pairs", desc := "(I)I" } : Jvm.MethodName)) ∈ lw_all := lw_g (lw_at lw_m13 184 rfl) rfl
theorem q3231 : (Jvm.Cond.code ({ cls := "MergeJudgeModel", name := "pairs", desc := "(I)I" } : Jvm.MethodName) prog_22_method_107_code (4 : Nat) (Option.some Jvm.ClassFile.FieldType.int)) ∈ lw_all := lw_g (lw_at lw_m13 185 rfl) rfl
theorem q3233 : (Jvm.Cond.instanceMethod ({ cls := "MergeJudgeModel", name := "safe", desc := "(I)I" } : Jvm.MethodName)) ∈ lw_all := lw_g (lw_at lw_m13 187 rfl) rfl
theorem q3234 : (Jvm.Cond.selects "MergeJudgeModel" ({ cls := "MergeJudgeModel", name := "safe", desc := "(I)I" } : Jvm.MethodName) ({ cls := "MergeJudgeModel", name := "safe", desc := "(I)I" } : Jvm.MethodName)) ∈ lw_all := lw_g (lw_at lw_m13 188 rfl) rfl
theorem q3235 : (Jvm.Cond.code ({ cls := "MergeJudgeModel", name := "safe", desc := "(I)I" } : Jvm.MethodName) prog_22_method_108_code (2 : Nat) (Option.some Jvm.ClassFile.FieldType.int)) ∈ lw_all := lw_g (lw_at lw_m13 189 rfl) rfl
theorem q3237 : (Jvm.Cond.instanceMethod ({ cls := "MergeJudgeModel", name := "bound", desc := "()I" } : Jvm.MethodName)) ∈ lw_all := lw_g (lw_at lw_m13 191 rfl) rfl
theorem q3238 : (Jvm.Cond.selects "MergeJudgeModel" ({ cls := "MergeJudgeModel", name := "bound", desc := "()I" } : Jvm.MethodName) ({ cls := "MergeJudgeModel", name := "bound", desc := "()I" } : Jvm.MethodName)) ∈ lw_all := lw_g (lw_at lw_m13 192 rfl) rfl
theorem q3239 : (Jvm.Cond.code ({ cls := "MergeJudgeModel", name := "bound", desc := "()I" } : Jvm.MethodName) prog_22_method_109_code (2 : Nat) (Option.some Jvm.ClassFile.FieldType.int)) ∈ lw_all := lw_g (lw_at lw_m13 193 rfl) rfl
theorem q3241 : (Jvm.Cond.instanceMethod ({ cls := "MergeJudgeModel", name := "bare", desc := "(I)I" } : Jvm.MethodName)) ∈ lw_all := lw_g (lw_at lw_m13 195 rfl) rfl
theorem q3242 : (Jvm.Cond.selects "MergeJudgeModel" ({ cls := "MergeJudgeModel", name := "bare", desc := "(I)I" } : Jvm.MethodName) ({ cls := "MergeJudgeModel", name := "bare", desc := "(I)I" } : Jvm.MethodName)) ∈ lw_all := lw_g (lw_at lw_m13 196 rfl) rfl
theorem q3243 : (Jvm.Cond.code ({ cls := "MergeJudgeModel", name := "bare", desc := "(I)I" } : Jvm.MethodName) prog_22_method_110_code (4 : Nat) (Option.some Jvm.ClassFile.FieldType.int)) ∈ lw_all := lw_g (lw_at lw_m13 197 rfl) rfl
theorem q3245 : (Jvm.Cond.instanceMethod ({ cls := "MergeJudgeModel", name := "calm", desc := "(I)I" } : Jvm.MethodName)) ∈ lw_all := lw_g (lw_at lw_m13 199 rfl) rfl
theorem q3246 : (Jvm.Cond.selects "MergeJudgeModel" ({ cls := "MergeJudgeModel", name := "calm", desc := "(I)I" } : Jvm.MethodName) ({ cls := "MergeJudgeModel", name := "calm", desc := "(I)I" } : Jvm.MethodName)) ∈ lw_all := lw_g (lw_at lw_m13 200 rfl) rfl
theorem q3247 : (Jvm.Cond.code ({ cls := "MergeJudgeModel", name := "calm", desc := "(I)I" } : Jvm.MethodName) prog_22_method_111_code (3 : Nat) (Option.some Jvm.ClassFile.FieldType.int)) ∈ lw_all := lw_g (lw_at lw_m13 201 rfl) rfl
theorem q3249 : (Jvm.Cond.instanceMethod ({ cls := "MergeJudgeModel", name := "hot", desc := "(I)I" } : Jvm.MethodName)) ∈ lw_all := lw_g (lw_at lw_m13 203 rfl) rfl
theorem q3250 : (Jvm.Cond.selects "MergeJudgeModel" ({ cls := "MergeJudgeModel", name := "hot", desc := "(I)I" } : Jvm.MethodName) ({ cls := "MergeJudgeModel", name := "hot", desc := "(I)I" } : Jvm.MethodName)) ∈ lw_all := lw_g (lw_at lw_m13 204 rfl) rfl
theorem q3251 : (Jvm.Cond.code ({ cls := "MergeJudgeModel", name := "hot", desc := "(I)I" } : Jvm.MethodName) prog_22_method_112_code (5 : Nat) (Option.some Jvm.ClassFile.FieldType.int)) ∈ lw_all := lw_g (lw_at lw_m13 205 rfl) rfl
theorem q3253 : (Jvm.Cond.instanceMethod ({ cls := "MergeJudgeModel", name := "least", desc := "(II)I" } : Jvm.MethodName)) ∈ lw_all := lw_g (lw_at lw_m13 207 rfl) rfl
theorem q3254 : (Jvm.Cond.selects "MergeJudgeModel" ({ cls := "MergeJudgeModel", name := "least", desc := "(II)I" } : Jvm.MethodName) ({ cls := "MergeJudgeModel", name := "least", desc := "(II)I" } : Jvm.MethodName)) ∈ lw_all := lw_g (lw_at lw_m13 208 rfl) rfl
theorem q3255 : (Jvm.Cond.code ({ cls := "MergeJudgeModel", name := "least", desc := "(II)I" } : Jvm.MethodName) prog_22_method_113_code (3 : Nat) (Option.some Jvm.ClassFile.FieldType.int)) ∈ lw_all := lw_g (lw_at lw_m13 209 rfl) rfl
theorem q3257 : (Jvm.Cond.instanceMethod ({ cls := "MergeJudgeModel", name := "culprit", desc := "(I)I" } : Jvm.MethodName)) ∈ lw_all := lw_g (lw_at lw_m13 211 rfl) rfl
theorem q3258 : (Jvm.Cond.selects "MergeJudgeModel" ({ cls := "MergeJudgeModel", name := "culprit", desc := "(I)I" } : Jvm.MethodName) ({ cls := "MergeJudgeModel", name := "culprit", desc := "(I)I" } : Jvm.MethodName)) ∈ lw_all := lw_g (lw_at lw_m13 212 rfl) rfl
theorem q3259 : (Jvm.Cond.code ({ cls := "MergeJudgeModel", name := "culprit", desc := "(I)I" } : Jvm.MethodName) prog_22_method_114_code (2 : Nat) (Option.some Jvm.ClassFile.FieldType.int)) ∈ lw_all := lw_g (lw_at lw_m13 213 rfl) rfl
theorem q3261 : (Jvm.Cond.instanceMethod ({ cls := "MergeJudgeModel", name := "hits", desc := "(II)I" } : Jvm.MethodName)) ∈ lw_all := lw_g (lw_at lw_m13 215 rfl) rfl
theorem q3262 : (Jvm.Cond.selects "MergeJudgeModel" ({ cls := "MergeJudgeModel", name := "hits", desc := "(II)I" } : Jvm.MethodName) ({ cls := "MergeJudgeModel", name := "hits", desc := "(II)I" } : Jvm.MethodName)) ∈ lw_all := lw_g (lw_at lw_m13 216 rfl) rfl
theorem q3263 : (Jvm.Cond.code ({ cls := "MergeJudgeModel", name := "hits", desc := "(II)I" } : Jvm.MethodName) prog_22_method_115_code (3 : Nat) (Option.some Jvm.ClassFile.FieldType.int)) ∈ lw_all := lw_g (lw_at lw_m13 217 rfl) rfl
theorem q3265 : (Jvm.Cond.instanceMethod ({ cls := "MergeJudgeModel", name := "worst", desc := "(I)I" } : Jvm.MethodName)) ∈ lw_all := lw_g (lw_at lw_m13 219 rfl) rfl
theorem q3266 : (Jvm.Cond.selects "MergeJudgeModel" ({ cls := "MergeJudgeModel", name := "worst", desc := "(I)I" } : Jvm.MethodName) ({ cls := "MergeJudgeModel", name := "worst", desc := "(I)I" } : Jvm.MethodName)) ∈ lw_all := lw_g (lw_at lw_m13 220 rfl) rfl
theorem q3267 : (Jvm.Cond.code ({ cls := "MergeJudgeModel", name := "worst", desc := "(I)I" } : Jvm.MethodName) prog_22_method_116_code (4 : Nat) (Option.some Jvm.ClassFile.FieldType.int)) ∈ lw_all := lw_g (lw_at lw_m13 221 rfl) rfl
theorem q3269 : (Jvm.Cond.instanceMethod ({ cls := "MergeJudgeModel", name := "known", desc := "(I)I" } : Jvm.MethodName)) ∈ lw_all := lw_g (lw_at lw_m13 223 rfl) rfl
theorem q3270 : (Jvm.Cond.selects "MergeJudgeModel" ({ cls := "MergeJudgeModel", name := "known", desc := "(I)I" } : Jvm.MethodName) ({ cls := "MergeJudgeModel", name := "known", desc := "(I)I" } : Jvm.MethodName)) ∈ lw_all := lw_g (lw_at lw_m13 224 rfl) rfl
theorem q3271 : (Jvm.Cond.code ({ cls := "MergeJudgeModel", name := "known", desc := "(I)I" } : Jvm.MethodName) prog_22_method_117_code (3 : Nat) (Option.some Jvm.ClassFile.FieldType.int)) ∈ lw_all := lw_g (lw_at lw_m13 225 rfl) rfl
theorem q3273 : (Jvm.Cond.instanceMethod ({ cls := "MergeJudgeModel", name := "alone", desc := "(II)I" } : Jvm.MethodName)) ∈ lw_all := lw_g (lw_at lw_m13 227 rfl) rfl
theorem q3274 : (Jvm.Cond.selects "MergeJudgeModel" ({ cls := "MergeJudgeModel", name := "alone", desc := "(II)I" } : Jvm.MethodName) ({ cls := "MergeJudgeModel", name := "alone", desc := "(II)I" } : Jvm.MethodName)) ∈ lw_all := lw_g (lw_at lw_m13 228 rfl) rfl
theorem q3275 : (Jvm.Cond.code ({ cls := "MergeJudgeModel", name := "alone", desc := "(II)I" } : Jvm.MethodName) prog_22_method_119_code (3 : Nat) (Option.some Jvm.ClassFile.FieldType.int)) ∈ lw_all := lw_g (lw_at lw_m13 229 rfl) rfl
theorem q3276 : (Jvm.Cond.methodLink "MergeJudgeModel" (402 : Nat) ({ cls := "MergeJudgeModel", name := "allRules", desc := "()I" } : Jvm.MethodName)) ∈ lw_all := lw_g (lw_at lw_m13 230 rfl) rfl
theorem q3277 : (Jvm.Cond.privateMethod ({ cls := "MergeJudgeModel", name := "allRules", desc := "()I" } : Jvm.MethodName)) ∈ lw_tbl := lw_at lw_m13 231 rfl
theorem q3278 : (Jvm.Cond.instanceMethod ({ cls := "MergeJudgeModel", name := "allRules", desc := "()I" } : Jvm.MethodName)) ∈ lw_all := lw_g (lw_at lw_m13 232 rfl) rfl
theorem q3279 : (Jvm.Cond.code ({ cls := "MergeJudgeModel", name := "allRules", desc := "()I" } : Jvm.MethodName) prog_22_method_12_code (1 : Nat) (Option.some Jvm.ClassFile.FieldType.int)) ∈ lw_all := lw_g (lw_at lw_m13 233 rfl) rfl
theorem q3280 : (Jvm.Cond.methodLink "MergeJudgeModel" (405 : Nat) ({ cls := "MergeJudgeModel", name := "isSafeBy", desc := "(III)Z" } : Jvm.MethodName)) ∈ lw_all := lw_g (lw_at lw_m13 234 rfl) rfl
theorem q3281 : (Jvm.Cond.privateMethod ({ cls := "MergeJudgeModel", name := "isSafeBy", desc := "(III)Z" } : Jvm.MethodName)) ∈ lw_tbl := lw_at lw_m13 235 rfl
theorem q3282 : (Jvm.Cond.instanceMethod ({ cls := "MergeJudgeModel", name := "isSafeBy", desc := "(III)Z" } : Jvm.MethodName)) ∈ lw_all := lw_g (lw_at lw_m13 236 rfl) rfl
theorem q3283 : (Jvm.Cond.code ({ cls := "MergeJudgeModel", name := "isSafeBy", desc := "(III)Z" } : Jvm.MethodName) prog_22_method_118_code (4 : Nat) (Option.some Jvm.ClassFile.FieldType.boolean)) ∈ lw_all := lw_g (lw_at lw_m13 237 rfl) rfl
theorem q3285 : (Jvm.Cond.instanceMethod ({ cls := "MergeJudgeModel", name := "fine", desc := "(I)I" } : Jvm.MethodName)) ∈ lw_all := lw_g (lw_at lw_m13 239 rfl) rfl
theorem q3286 : (Jvm.Cond.selects "MergeJudgeModel" ({ cls := "MergeJudgeModel", name := "fine", desc := "(I)I" } : Jvm.MethodName) ({ cls := "MergeJudgeModel", name := "fine", desc := "(I)I" } : Jvm.MethodName)) ∈ lw_all := lw_g (lw_at lw_m14 0 rfl) rfl
theorem q3287 : (Jvm.Cond.code ({ cls := "MergeJudgeModel", name := "fine", desc := "(I)I" } : Jvm.MethodName) prog_22_method_120_code (4 : Nat) (Option.some Jvm.ClassFile.FieldType.int)) ∈ lw_all := lw_g (lw_at lw_m14 1 rfl) rfl
theorem q3289 : (Jvm.Cond.instanceMethod ({ cls := "MergeJudgeModel", name := "fewest", desc := "(I)I" } : Jvm.MethodName)) ∈ lw_all := lw_g (lw_at lw_m14 3 rfl) rfl
theorem q3290 : (Jvm.Cond.selects "MergeJudgeModel" ({ cls := "MergeJudgeModel", name := "fewest", desc := "(I)I" } : Jvm.MethodName) ({ cls := "MergeJudgeModel", name := "fewest", desc := "(I)I" } : Jvm.MethodName)) ∈ lw_all := lw_g (lw_at lw_m14 4 rfl) rfl
theorem q3291 : (Jvm.Cond.code ({ cls := "MergeJudgeModel", name := "fewest", desc := "(I)I" } : Jvm.MethodName) prog_22_method_123_code (2 : Nat) (Option.some Jvm.ClassFile.FieldType.int)) ∈ lw_all := lw_g (lw_at lw_m14 5 rfl) rfl
theorem q3292 : (Jvm.Cond.methodLink "MergeJudgeModel" (424 : Nat) ({ cls := "MergeJudgeModel", name := "asksLocks", desc := "(I)Z" } : Jvm.MethodName)) ∈ lw_all := lw_g (lw_at lw_m14 6 rfl) rfl
theorem q3293 : (Jvm.Cond.privateMethod ({ cls := "MergeJudgeModel", name := "asksLocks", desc := "(I)Z" } : Jvm.MethodName)) ∈ lw_tbl := lw_at lw_m14 7 rfl
theorem q3294 : (Jvm.Cond.instanceMethod ({ cls := "MergeJudgeModel", name := "asksLocks", desc := "(I)Z" } : Jvm.MethodName)) ∈ lw_all := lw_g (lw_at lw_m14 8 rfl) rfl
theorem q3295 : (Jvm.Cond.code ({ cls := "MergeJudgeModel", name := "asksLocks", desc := "(I)Z" } : Jvm.MethodName) prog_22_method_122_code (2 : Nat) (Option.some Jvm.ClassFile.FieldType.boolean)) ∈ lw_all := lw_g (lw_at lw_m14 9 rfl) rfl
theorem q3296 : (Jvm.Cond.methodLink "MergeJudgeModel" (421 : Nat) ({ cls := "MergeJudgeModel", name := "findLocks", desc := "(I)V" } : Jvm.MethodName)) ∈ lw_all := lw_g (lw_at lw_m14 10 rfl) rfl
theorem q3297 : (Jvm.Cond.privateMethod ({ cls := "MergeJudgeModel", name := "findLocks", desc := "(I)V" } : Jvm.MethodName)) ∈ lw_tbl := lw_at lw_m14 11 rfl
theorem q3298 : (Jvm.Cond.instanceMethod ({ cls := "MergeJudgeModel", name := "findLocks", desc := "(I)V" } : Jvm.MethodName)) ∈ lw_all := lw_g (lw_at lw_m14 12 rfl) rfl
theorem q3299 : (Jvm.Cond.code ({ cls := "MergeJudgeModel", name := "findLocks", desc := "(I)V" } : Jvm.MethodName) prog_22_method_121_code (3 : Nat) (Option.none : Option Jvm.ClassFile.FieldType)) ∈ lw_all := lw_g (lw_at lw_m14 13 rfl) rfl
theorem q3300 : (Jvm.Cond.methodLink "MergeJudgeModel" (412 : Nat) ({ cls := "MergeJudgeModel", name := "allOps", desc := "()I" } : Jvm.MethodName)) ∈ lw_all := lw_g (lw_at lw_m14 14 rfl) rfl
theorem q3301 : (Jvm.Cond.privateMethod ({ cls := "MergeJudgeModel", name := "allOps", desc := "()I" } : Jvm.MethodName)) ∈ lw_tbl := lw_at lw_m14 15 rfl
theorem q3302 : (Jvm.Cond.instanceMethod ({ cls := "MergeJudgeModel", name := "allOps", desc := "()I" } : Jvm.MethodName)) ∈ lw_all := lw_g (lw_at lw_m14 16 rfl) rfl
theorem q3303 : (Jvm.Cond.code ({ cls := "MergeJudgeModel", name := "allOps", desc := "()I" } : Jvm.MethodName) prog_22_method_13_code (1 : Nat) (Option.some Jvm.ClassFile.FieldType.int)) ∈ lw_all := lw_g (lw_at lw_m14 17 rfl) rfl
theorem q3304 : (Jvm.Cond.methodLink "MergeJudgeModel" (418 : Nat) ({ cls := "MergeJudgeModel", name := "bits", desc := "(I)I" } : Jvm.MethodName)) ∈ lw_all := lw_g (lw_at lw_m14 18 rfl) rfl
theorem q3305 : (Jvm.Cond.static ({ cls := "MergeJudgeModel", name := "bits", desc := "(I)I" } : Jvm.MethodName)) ∈ lw_all := lw_g (lw_at lw_m14 19 rfl) rfl
theorem q3306 : (Jvm.Cond.code ({ cls := "MergeJudgeModel", name := "bits", desc := "(I)I" } : Jvm.MethodName) prog_22_method_4_code (3 : Nat) (Option.some Jvm.ClassFile.FieldType.int)) ∈ lw_all := lw_g (lw_at lw_m14 20 rfl) rfl
theorem q3308 : (Jvm.Cond.instanceMethod ({ cls := "MergeJudgeModel", name := "locks", desc := "(I)I" } : Jvm.MethodName)) ∈ lw_all := lw_g (lw_at lw_m14 22 rfl) rfl
theorem q3309 : (Jvm.Cond.selects "MergeJudgeModel" ({ cls := "MergeJudgeModel", name := "locks", desc := "(I)I" } : Jvm.MethodName) ({ cls := "MergeJudgeModel", name := "locks", desc := "(I)I" } : Jvm.MethodName)) ∈ lw_all := lw_g (lw_at lw_m14 23 rfl) rfl
theorem q3310 : (Jvm.Cond.code ({ cls := "MergeJudgeModel", name := "locks", desc := "(I)I" } : Jvm.MethodName) prog_22_method_124_code (2 : Nat) (Option.some Jvm.ClassFile.FieldType.int)) ∈ lw_all := lw_g (lw_at lw_m14 24 rfl) rfl
theorem q3312 : (Jvm.Cond.instanceMethod ({ cls := "MergeJudgeModel", name := "needed", desc := "(I)I" } : Jvm.MethodName)) ∈ lw_all := lw_g (lw_at lw_m14 26 rfl) rfl
theorem q3313 : (Jvm.Cond.selects "MergeJudgeModel" ({ cls := "MergeJudgeModel", name := "needed", desc := "(I)I" } : Jvm.MethodName) ({ cls := "MergeJudgeModel", name := "needed", desc := "(I)I" } : Jvm.MethodName)) ∈ lw_all := lw_g (lw_at lw_m14 27 rfl) rfl
theorem q3314 : (Jvm.Cond.code ({ cls := "MergeJudgeModel", name := "needed", desc := "(I)I" } : Jvm.MethodName) prog_22_method_125_code (2 : Nat) (Option.some Jvm.ClassFile.FieldType.int)) ∈ lw_all := lw_g (lw_at lw_m14 28 rfl) rfl
theorem q3316 : (Jvm.Cond.instanceMethod ({ cls := "MergeJudgeModel", name := "blame", desc := "()I" } : Jvm.MethodName)) ∈ lw_all := lw_g (lw_at lw_m14 30 rfl) rfl
theorem q3317 : (Jvm.Cond.selects "MergeJudgeModel" ({ cls := "MergeJudgeModel", name := "blame", desc := "()I" } : Jvm.MethodName) ({ cls := "MergeJudgeModel", name := "blame", desc := "()I" } : Jvm.MethodName)) ∈ lw_all := lw_g (lw_at lw_m14 31 rfl) rfl
theorem q3318 : (Jvm.Cond.code ({ cls := "MergeJudgeModel", name := "blame", desc := "()I" } : Jvm.MethodName) prog_22_method_127_code (6 : Nat) (Option.some Jvm.ClassFile.FieldType.int)) ∈ lw_all := lw_g (lw_at lw_m14 32 rfl) rfl
theorem q3319 : (Jvm.Cond.methodLink "MergeJudgeModel" (427 : Nat) ({ cls := "MergeJudgeModel", name := "breaksBy", desc := "(I)I" } : Jvm.MethodName)) ∈ lw_all := lw_g (lw_at lw_m14 33 rfl) rfl
theorem q3320 : (Jvm.Cond.privateMethod ({ cls := "MergeJudgeModel", name := "breaksBy", desc := "(I)I" } : Jvm.MethodName)) ∈ lw_tbl := lw_at lw_m14 34 rfl
theorem q3321 : (Jvm.Cond.instanceMethod ({ cls := "MergeJudgeModel", name := "breaksBy", desc := "(I)I" } : Jvm.MethodName)) ∈ lw_all := lw_g (lw_at lw_m14 35 rfl) rfl
theorem q3322 : (Jvm.Cond.code ({ cls := "MergeJudgeModel", name := "breaksBy", desc := "(I)I" } : Jvm.MethodName) prog_22_method_126_code (2 : Nat) (Option.some Jvm.ClassFile.FieldType.int)) ∈ lw_all := lw_g (lw_at lw_m14 36 rfl) rfl
theorem q3324 : (Jvm.Cond.instanceMethod ({ cls := "MergeJudgeModel", name := "cure", desc := "()I" } : Jvm.MethodName)) ∈ lw_all := lw_g (lw_at lw_m14 38 rfl) rfl
theorem q3325 : (Jvm.Cond.selects "MergeJudgeModel" ({ cls := "MergeJudgeModel", name := "cure", desc := "()I" } : Jvm.MethodName) ({ cls := "MergeJudgeModel", name := "cure", desc := "()I" } : Jvm.MethodName)) ∈ lw_all := lw_g (lw_at lw_m14 39 rfl) rfl
theorem q3326 : (Jvm.Cond.code ({ cls := "MergeJudgeModel", name := "cure", desc := "()I" } : Jvm.MethodName) prog_22_method_128_code (7 : Nat) (Option.some Jvm.ClassFile.FieldType.int)) ∈ lw_all := lw_g (lw_at lw_m14 40 rfl) rfl
theorem q3328 : (Jvm.Cond.instanceMethod ({ cls := "MergeJudgeModel", name := "fits", desc := "(I)I" } : Jvm.MethodName)) ∈ lw_all := lw_g (lw_at lw_m14 42 rfl) rfl
theorem q3329 : (Jvm.Cond.selects "MergeJudgeModel" ({ cls := "MergeJudgeModel", name := "fits", desc := "(I)I" } : Jvm.MethodName) ({ cls := "MergeJudgeModel", name := "fits", desc := "(I)I" } : Jvm.MethodName)) ∈ lw_all := lw_g (lw_at lw_m14 43 rfl) rfl
theorem q3330 : (Jvm.Cond.code ({ cls := "MergeJudgeModel", name := "fits", desc := "(I)I" } : Jvm.MethodName) prog_22_method_133_code (3 : Nat) (Option.some Jvm.ClassFile.FieldType.int)) ∈ lw_all := lw_g (lw_at lw_m14 44 rfl) rfl
theorem q3331 : (Jvm.Cond.methodLink "MergeJudgeModel" (449 : Nat) ({ cls := "MergeJudgeModel", name := "askFits", desc := "(I)I" } : Jvm.MethodName)) ∈ lw_all := lw_g (lw_at lw_m14 45 rfl) rfl
theorem q3332 : (Jvm.Cond.privateMethod ({ cls := "MergeJudgeModel", name := "askFits", desc := "(I)I" } : Jvm.MethodName)) ∈ lw_tbl := lw_at lw_m14 46 rfl
theorem q3333 : (Jvm.Cond.instanceMethod ({ cls := "MergeJudgeModel", name := "askFits", desc := "(I)I" } : Jvm.MethodName)) ∈ lw_all := lw_g (lw_at lw_m14 47 rfl) rfl
theorem q3334 : (Jvm.Cond.code ({ cls := "MergeJudgeModel", name := "askFits", desc := "(I)I" } : Jvm.MethodName) prog_22_method_132_code (3 : Nat) (Option.some Jvm.ClassFile.FieldType.int)) ∈ lw_all := lw_g (lw_at lw_m14 48 rfl) rfl
theorem q3335 : (Jvm.Cond.methodLink "MergeJudgeModel" (443 : Nat) ({ cls := "MergeJudgeModel", name := "askSeen", desc := "(I)I" } : Jvm.MethodName)) ∈ lw_all := lw_g (lw_at lw_m14 49 rfl) rfl
theorem q3336 : (Jvm.Cond.privateMethod ({ cls := "MergeJudgeModel", name := "askSeen", desc := "(I)I" } : Jvm.MethodName)) ∈ lw_tbl := lw_at lw_m14 50 rfl
theorem q3337 : (Jvm.Cond.instanceMethod ({ cls := "MergeJudgeModel", name := "askSeen", desc := "(I)I" } : Jvm.MethodName)) ∈ lw_all := lw_g (lw_at lw_m14 51 rfl) rfl
theorem q3338 : (Jvm.Cond.code ({ cls := "MergeJudgeModel", name := "askSeen", desc := "(I)I" } : Jvm.MethodName) prog_22_method_130_code (3 : Nat) (Option.some Jvm.ClassFile.FieldType.int)) ∈ lw_all := lw_g (lw_at lw_m14 52 rfl) rfl
theorem q3339 : (Jvm.Cond.methodLink "MergeJudgeModel" (430 : Nat) ({ cls := "MergeJudgeModel", name := "isSlot", desc := "(I)Z" } : Jvm.MethodName)) ∈ lw_all := lw_g (lw_at lw_m14 53 rfl) rfl
theorem q3340 : (Jvm.Cond.static ({ cls := "MergeJudgeModel", name := "isSlot", desc := "(I)Z" } : Jvm.MethodName)) ∈ lw_all := lw_g (lw_at lw_m14 54 rfl) rfl
theorem q3341 : (Jvm.Cond.code ({ cls := "MergeJudgeModel", name := "isSlot", desc := "(I)Z" } : Jvm.MethodName) prog_22_method_165_code (1 : Nat) (Option.some Jvm.ClassFile.FieldType.boolean)) ∈ lw_all := lw_g (lw_at lw_m14 55 rfl) rfl
theorem q3342 : (Jvm.Cond.methodLink "MergeJudgeModel" (433 : Nat) ({ cls := "MergeJudgeModel", name := "numberAt", desc := "(II)J" } : Jvm.MethodName)) ∈ lw_all := lw_g (lw_at lw_m14 56 rfl) rfl
theorem q3343 : (Jvm.Cond.privateMethod ({ cls := "MergeJudgeModel", name := "numberAt", desc := "(II)J" } : Jvm.MethodName)) ∈ lw_tbl := lw_at lw_m14 57 rfl
theorem q3344 : (Jvm.Cond.instanceMethod ({ cls := "MergeJudgeModel", name := "numberAt", desc := "(II)J" } : Jvm.MethodName)) ∈ lw_all := lw_g (lw_at lw_m14 58 rfl) rfl
theorem q3345 : (Jvm.Cond.code ({ cls := "MergeJudgeModel", name := "numberAt", desc := "(II)J" } : Jvm.MethodName) prog_22_method_129_code (3 : Nat) (Option.some Jvm.ClassFile.FieldType.long)) ∈ lw_all := lw_g (lw_at lw_m14 59 rfl) rfl
theorem q3346 : (Jvm.Cond.methodLink "MergeJudgeModel" (446 : Nat) ({ cls := "MergeJudgeModel", name := "layFits", desc := "(I)V" } : Jvm.MethodName)) ∈ lw_all := lw_g (lw_at lw_m14 60 rfl) rfl
theorem q3347 : (Jvm.Cond.privateMethod ({ cls := "MergeJudgeModel", name := "layFits", desc := "(I)V" } : Jvm.MethodName)) ∈ lw_tbl := lw_at lw_m14 61 rfl
theorem q3348 : (Jvm.Cond.instanceMethod ({ cls := "MergeJudgeModel", name := "layFits", desc := "(I)V" } : Jvm.MethodName)) ∈ lw_all := lw_g (lw_at lw_m14 62 rfl) rfl
theorem q3349 : (Jvm.Cond.code ({ cls := "MergeJudgeModel", name := "layFits", desc := "(I)V" } : Jvm.MethodName) prog_22_method_131_code (5 : Nat) (Option.none : Option Jvm.ClassFile.FieldType)) ∈ lw_all := lw_g (lw_at lw_m14 63 rfl) rfl
theorem q3351 : (Jvm.Cond.instanceMethod ({ cls := "MergeJudgeModel", name := "which", desc := "(I)I" } : Jvm.MethodName)) ∈ lw_all := lw_g (lw_at lw_m14 65 rfl) rfl
theorem q3352 : (Jvm.Cond.selects "MergeJudgeModel" ({ cls := "MergeJudgeModel", name := "which", desc := "(I)I" } : Jvm.MethodName) ({ cls := "MergeJudgeModel", name := "which", desc := "(I)I" } : Jvm.MethodName)) ∈ lw_all := lw_g (lw_at lw_m14 66 rfl) rfl
theorem q3353 : (Jvm.Cond.code ({ cls := "MergeJudgeModel", name := "which", desc := "(I)I" } : Jvm.MethodName) prog_22_method_134_code (3 : Nat) (Option.some Jvm.ClassFile.FieldType.int)) ∈ lw_all := lw_g (lw_at lw_m14 67 rfl) rfl
theorem q3355 : (Jvm.Cond.instanceMethod ({ cls := "MergeJudgeModel", name := "laws", desc := "(I)I" } : Jvm.MethodName)) ∈ lw_all := lw_g (lw_at lw_m14 69 rfl) rfl
theorem q3356 : (Jvm.Cond.selects "MergeJudgeModel" ({ cls := "MergeJudgeModel", name := "laws", desc := "(I)I" } : Jvm.MethodName) ({ cls := "MergeJudgeModel", name := "laws", desc := "(I)I" } : Jvm.MethodName)) ∈ lw_all := lw_g (lw_at lw_m14 70 rfl) rfl
theorem q3357 : (Jvm.Cond.code ({ cls := "MergeJudgeModel", name := "laws", desc := "(I)I" } : Jvm.MethodName) prog_22_method_135_code (4 : Nat) (Option.some Jvm.ClassFile.FieldType.int)) ∈ lw_all := lw_g (lw_at lw_m14 71 rfl) rfl
theorem q3359 : (Jvm.Cond.instanceMethod ({ cls := "MergeJudgeModel", name := "by", desc := "(I)I" } : Jvm.MethodName)) ∈ lw_all := lw_g (lw_at lw_m14 73 rfl) rfl
theorem q3360 : (Jvm.Cond.selects "MergeJudgeModel" ({ cls := "MergeJudgeModel", name := "by", desc := "(I)I" } : Jvm.MethodName) ({ cls := "MergeJudgeModel", name := "by", desc := "(I)I" } : Jvm.MethodName)) ∈ lw_all := lw_g (lw_at lw_m14 74 rfl) rfl
theorem q3361 : (Jvm.Cond.code ({ cls := "MergeJudgeModel", name := "by", desc := "(I)I" } : Jvm.MethodName) prog_22_method_137_code (2 : Nat) (Option.some Jvm.ClassFile.FieldType.int)) ∈ lw_all := lw_g (lw_at lw_m14 75 rfl) rfl
theorem q3362 : (Jvm.Cond.methodLink "MergeJudgeModel" (452 : Nat) ({ cls := "MergeJudgeModel", name := "breaksByLaw", desc := "(I)I" } : Jvm.MethodName)) ∈ lw_all := lw_g (lw_at lw_m14 76 rfl) rfl
theorem q3363 : (Jvm.Cond.privateMethod ({ cls := "MergeJudgeModel", name := "breaksByLaw", desc := "(I)I" } : Jvm.MethodName)) ∈ lw_tbl := lw_at lw_m14 77 rfl
theorem q3364 : (Jvm.Cond.instanceMethod ({ cls := "MergeJudgeModel", name := "breaksByLaw", desc := "(I)I" } : Jvm.MethodName)) ∈ lw_all := lw_g (lw_at lw_m14 78 rfl) rfl
theorem q3365 : (Jvm.Cond.code ({ cls := "MergeJudgeModel", name := "breaksByLaw", desc := "(I)I" } : Jvm.MethodName) prog_22_method_136_code (2 : Nat) (Option.some Jvm.ClassFile.FieldType.int)) ∈ lw_all := lw_g (lw_at lw_m14 79 rfl) rfl
theorem q3367 : (Jvm.Cond.instanceMethod ({ cls := "MergeJudgeModel", name := "law", desc := "()I" } : Jvm.MethodName)) ∈ lw_all := lw_g (lw_at lw_m14 81 rfl) rfl
theorem q3368 : (Jvm.Cond.selects "MergeJudgeModel" ({ cls := "MergeJudgeModel", name := "law", desc := "()I" } : Jvm.MethodName) ({ cls := "MergeJudgeModel", name := "law", desc := "()I" } : Jvm.MethodName)) ∈ lw_all := lw_g (lw_at lw_m14 82 rfl) rfl
theorem q3369 : (Jvm.Cond.code ({ cls := "MergeJudgeModel", name := "law", desc := "()I" } : Jvm.MethodName) prog_22_method_138_code (3 : Nat) (Option.some Jvm.ClassFile.FieldType.int)) ∈ lw_all := lw_g (lw_at lw_m14 83 rfl) rfl
theorem q3371 : (Jvm.Cond.instanceMethod ({ cls := "MergeJudgeModel", name := "worth", desc := "(I)I" } : Jvm.MethodName)) ∈ lw_all := lw_g (lw_at lw_m14 85 rfl) rfl
theorem q3372 : (Jvm.Cond.selects "MergeJudgeModel" ({ cls := "MergeJudgeModel", name := "worth", desc := "(I)I" } : Jvm.MethodName) ({ cls := "MergeJudgeModel", name := "worth", desc := "(I)I" } : Jvm.MethodName)) ∈ lw_all := lw_g (lw_at lw_m14 86 rfl) rfl
theorem q3373 : (Jvm.Cond.code ({ cls := "MergeJudgeModel", name := "worth", desc := "(I)I" } : Jvm.MethodName) prog_22_method_140_code (2 : Nat) (Option.some Jvm.ClassFile.FieldType.int)) ∈ lw_all := lw_g (lw_at lw_m14 87 rfl) rfl
theorem q3374 : (Jvm.Cond.methodLink "MergeJudgeModel" (455 : Nat) ({ cls := "MergeJudgeModel", name := "worthOf", desc := "(I)I" } : Jvm.MethodName)) ∈ lw_all := lw_g (lw_at lw_m14 88 rfl) rfl
theorem q3375 : (Jvm.Cond.privateMethod ({ cls := "MergeJudgeModel", name := "worthOf", desc := "(I)I" } : Jvm.MethodName)) ∈ lw_tbl := lw_at lw_m14 89 rfl
theorem q3376 : (Jvm.Cond.instanceMethod ({ cls := "MergeJudgeModel", name := "worthOf", desc := "(I)I" } : Jvm.MethodName)) ∈ lw_all := lw_g (lw_at lw_m14 90 rfl) rfl
theorem q3377 : (Jvm.Cond.code ({ cls := "MergeJudgeModel", name := "worthOf", desc := "(I)I" } : Jvm.MethodName) prog_22_method_139_code (2 : Nat) (Option.some Jvm.ClassFile.FieldType.int)) ∈ lw_all := lw_g (lw_at lw_m14 91 rfl) rfl
theorem q3379 : (Jvm.Cond.instanceMethod ({ cls := "MergeJudgeModel", name := "share", desc := "(II)I" } : Jvm.MethodName)) ∈ lw_all := lw_g (lw_at lw_m14 93 rfl) rfl
theorem q3380 : (Jvm.Cond.selects "MergeJudgeModel" ({ cls := "MergeJudgeModel", name := "share", desc := "(II)I" } : Jvm.MethodName) ({ cls := "MergeJudgeModel", name := "share", desc := "(II)I" } : Jvm.MethodName)) ∈ lw_all := lw_g (lw_at lw_m14 94 rfl) rfl
theorem q3381 : (Jvm.Cond.code ({ cls := "MergeJudgeModel", name := "share", desc := "(II)I" } : Jvm.MethodName) prog_22_method_144_code (7 : Nat) (Option.some Jvm.ClassFile.FieldType.int)) ∈ lw_all := lw_g (lw_at lw_m14 95 rfl) rfl
theorem q3382 : (Jvm.Cond.constant "MergeJudgeModel" (466 : Nat) (-1000000 : Int32)) ∈ lw_all := lw_g (lw_at lw_m14 96 rfl) rfl
theorem q3383 : (Jvm.Cond.methodLink "MergeJudgeModel" (467 : Nat) ({ cls := "MergeJudgeModel", name := "factorial", desc := "(I)I" } : Jvm.MethodName)) ∈ lw_all := lw_g (lw_at lw_m14 97 rfl) rfl
theorem q3384 : (Jvm.Cond.static ({ cls := "MergeJudgeModel", name := "factorial", desc := "(I)I" } : Jvm.MethodName)) ∈ lw_all := lw_g (lw_at lw_m14 98 rfl) rfl
theorem q3385 : (Jvm.Cond.code ({ cls := "MergeJudgeModel", name := "factorial", desc := "(I)I" } : Jvm.MethodName) prog_22_method_141_code (3 : Nat) (Option.some Jvm.ClassFile.FieldType.int)) ∈ lw_all := lw_g (lw_at lw_m14 99 rfl) rfl
theorem q3386 : (Jvm.Cond.methodLink "MergeJudgeModel" (470 : Nat) ({ cls := "MergeJudgeModel", name := "part", desc := "(JJI)J" } : Jvm.MethodName)) ∈ lw_all := lw_g (lw_at lw_m14 100 rfl) rfl
theorem q3387 : (Jvm.Cond.static ({ cls := "MergeJudgeModel", name := "part", desc := "(JJI)J" } : Jvm.MethodName)) ∈ lw_all := lw_g (lw_at lw_m14 101 rfl) rfl
theorem q3388 : (Jvm.Cond.code ({ cls := "MergeJudgeModel", name := "part", desc := "(JJI)J" } : Jvm.MethodName) prog_22_method_143_code (5 : Nat) (Option.some Jvm.ClassFile.FieldType.long)) ∈ lw_all := lw_g (lw_at lw_m14 102 rfl) rfl
theorem q3389 : (Jvm.Cond.methodLink "MergeJudgeModel" (462 : Nat) ({ cls := "MergeJudgeModel", name := "divisor", desc := "(JJ)J" } : Jvm.MethodName)) ∈ lw_all := lw_g (lw_at lw_m14 103 rfl) rfl
theorem q3390 : (Jvm.Cond.static ({ cls := "MergeJudgeModel", name := "divisor", desc := "(JJ)J" } : Jvm.MethodName)) ∈ lw_all := lw_g (lw_at lw_m14 104 rfl) rfl
theorem q3391 : (Jvm.Cond.code ({ cls := "MergeJudgeModel", name := "divisor", desc := "(JJ)J" } : Jvm.MethodName) prog_22_method_142_code (10 : Nat) (Option.some Jvm.ClassFile.FieldType.long)) ∈ lw_all := lw_g (lw_at lw_m14 105 rfl) rfl
theorem q3392 : (Jvm.Cond.methodLink "MergeJudgeModel" (458 : Nat) ({ cls := "java/lang/Math", name := "abs", desc := "(J)J" } : Jvm.MethodName)) ∈ lw_all := lw_g (lw_at lw_m14 106 rfl) rfl
theorem q3394 : (Jvm.Cond.instanceMethod ({ cls := "MergeJudgeModel", name := "rests", desc := "(II)I" } : Jvm.MethodName)) ∈ lw_all := lw_g (lw_at lw_m14 108 rfl) rfl
theorem q3395 : (Jvm.Cond.selects "MergeJudgeModel" ({ cls := "MergeJudgeModel", name := "rests", desc := "(II)I" } : Jvm.MethodName) ({ cls := "MergeJudgeModel", name := "rests", desc := "(II)I" } : Jvm.MethodName)) ∈ lw_all := lw_g (lw_at lw_m14 109 rfl) rfl
theorem q3396 : (Jvm.Cond.code ({ cls := "MergeJudgeModel", name := "rests", desc := "(II)I" } : Jvm.MethodName) prog_22_method_147_code (8 : Nat) (Option.some Jvm.ClassFile.FieldType.int)) ∈ lw_all := lw_g (lw_at lw_m14 110 rfl) rfl
theorem q3397 : (Jvm.Cond.methodLink "MergeJudgeModel" (474 : Nat) ({ cls := "MergeJudgeModel", name := "areTwo", desc := "(II)Z" } : Jvm.MethodName)) ∈ lw_all := lw_g (lw_at lw_m14 111 rfl) rfl
theorem q3398 : (Jvm.Cond.privateMethod ({ cls := "MergeJudgeModel", name := "areTwo", desc := "(II)Z" } : Jvm.MethodName)) ∈ lw_tbl := lw_at lw_m14 112 rfl
theorem q3399 : (Jvm.Cond.instanceMethod ({ cls := "MergeJudgeModel", name := "areTwo", desc := "(II)Z" } : Jvm.MethodName)) ∈ lw_all := lw_g (lw_at lw_m14 113 rfl) rfl
theorem q3400 : (Jvm.Cond.code ({ cls := "MergeJudgeModel", name := "areTwo", desc := "(II)Z" } : Jvm.MethodName) prog_22_method_146_code (3 : Nat) (Option.some Jvm.ClassFile.FieldType.boolean)) ∈ lw_all := lw_g (lw_at lw_m14 114 rfl) rfl
theorem q3401 : (Jvm.Cond.methodLink "MergeJudgeModel" (477 : Nat) ({ cls := "MergeJudgeModel", name := "getsBy", desc := "(IIIII)I" } : Jvm.MethodName)) ∈ lw_all := lw_g (lw_at lw_m14 115 rfl) rfl
theorem q3402 : (Jvm.Cond.privateMethod ({ cls := "MergeJudgeModel", name := "getsBy", desc := "(IIIII)I" } : Jvm.MethodName)) ∈ lw_tbl := lw_at lw_m14 116 rfl
theorem q3403 : (Jvm.Cond.instanceMethod ({ cls := "MergeJudgeModel", name := "getsBy", desc := "(IIIII)I" } : Jvm.MethodName)) ∈ lw_all := lw_g (lw_at lw_m14 117 rfl) rfl
theorem q3404 : (Jvm.Cond.code ({ cls := "MergeJudgeModel", name := "getsBy", desc := "(IIIII)I" } : Jvm.MethodName) prog_22_method_145_code (6 : Nat) (Option.some Jvm.ClassFile.FieldType.int)) ∈ lw_all := lw_g (lw_at lw_m14 118 rfl) rfl
theorem q3406 : (Jvm.Cond.instanceMethod ({ cls := "MergeJudgeModel", name := "gets", desc := "(IIII)I" } : Jvm.MethodName)) ∈ lw_all := lw_g (lw_at lw_m14 120 rfl) rfl
theorem q3407 : (Jvm.Cond.selects "MergeJudgeModel" ({ cls := "MergeJudgeModel", name := "gets", desc := "(IIII)I" } : Jvm.MethodName) ({ cls := "MergeJudgeModel", name := "gets", desc := "(IIII)I" } : Jvm.MethodName)) ∈ lw_all := lw_g (lw_at lw_m14 121 rfl) rfl
theorem q3408 : (Jvm.Cond.code ({ cls := "MergeJudgeModel", name := "gets", desc := "(IIII)I" } : Jvm.MethodName) prog_22_method_148_code (5 : Nat) (Option.some Jvm.ClassFile.FieldType.int)) ∈ lw_all := lw_g (lw_at lw_m14 122 rfl) rfl
theorem q3410 : (Jvm.Cond.instanceMethod ({ cls := "MergeJudgeModel", name := "chance", desc := "(I)J" } : Jvm.MethodName)) ∈ lw_all := lw_g (lw_at lw_m14 124 rfl) rfl
theorem q3411 : (Jvm.Cond.selects "MergeJudgeModel" ({ cls := "MergeJudgeModel", name := "chance", desc := "(I)J" } : Jvm.MethodName) ({ cls := "MergeJudgeModel", name := "chance", desc := "(I)J" } : Jvm.MethodName)) ∈ lw_all := lw_g (lw_at lw_m14 125 rfl) rfl
theorem q3412 : (Jvm.Cond.code ({ cls := "MergeJudgeModel", name := "chance", desc := "(I)J" } : Jvm.MethodName) prog_22_method_151_code (2 : Nat) (Option.some Jvm.ClassFile.FieldType.long)) ∈ lw_all := lw_g (lw_at lw_m14 126 rfl) rfl
theorem q3413 : (Jvm.Cond.methodLink "MergeJudgeModel" (494 : Nat) ({ cls := "MergeJudgeModel", name := "asksChance", desc := "(I)Z" } : Jvm.MethodName)) ∈ lw_all := lw_g (lw_at lw_m14 127 rfl) rfl
theorem q3414 : (Jvm.Cond.privateMethod ({ cls := "MergeJudgeModel", name := "asksChance", desc := "(I)Z" } : Jvm.MethodName)) ∈ lw_tbl := lw_at lw_m14 128 rfl
theorem q3415 : (Jvm.Cond.instanceMethod ({ cls := "MergeJudgeModel", name := "asksChance", desc := "(I)Z" } : Jvm.MethodName)) ∈ lw_all := lw_g (lw_at lw_m14 129 rfl) rfl
theorem q3416 : (Jvm.Cond.code ({ cls := "MergeJudgeModel", name := "asksChance", desc := "(I)Z" } : Jvm.MethodName) prog_22_method_150_code (2 : Nat) (Option.some Jvm.ClassFile.FieldType.boolean)) ∈ lw_all := lw_g (lw_at lw_m14 130 rfl) rfl
theorem q3417 : (Jvm.Cond.methodLink "MergeJudgeModel" (491 : Nat) ({ cls := "MergeJudgeModel", name := "layChance", desc := "()V" } : Jvm.MethodName)) ∈ lw_all := lw_g (lw_at lw_m14 131 rfl) rfl
theorem q3418 : (Jvm.Cond.privateMethod ({ cls := "MergeJudgeModel", name := "layChance", desc := "()V" } : Jvm.MethodName)) ∈ lw_tbl := lw_at lw_m14 132 rfl
theorem q3419 : (Jvm.Cond.instanceMethod ({ cls := "MergeJudgeModel", name := "layChance", desc := "()V" } : Jvm.MethodName)) ∈ lw_all := lw_g (lw_at lw_m14 133 rfl) rfl
theorem q3420 : (Jvm.Cond.code ({ cls := "MergeJudgeModel", name := "layChance", desc := "()V" } : Jvm.MethodName) prog_22_method_149_code (6 : Nat) (Option.none : Option Jvm.ClassFile.FieldType)) ∈ lw_all := lw_g (lw_at lw_m14 134 rfl) rfl
theorem q3421 : (Jvm.Cond.constantLong "MergeJudgeModel" (497 : Nat) (-2 : Int64)) ∈ lw_all := lw_g (lw_at lw_m14 135 rfl) rfl
theorem q3423 : (Jvm.Cond.instanceMethod ({ cls := "MergeJudgeModel", name := "mean", desc := "(I)J" } : Jvm.MethodName)) ∈ lw_all := lw_g (lw_at lw_m14 137 rfl) rfl
theorem q3424 : (Jvm.Cond.selects "MergeJudgeModel" ({ cls := "MergeJudgeModel", name := "mean", desc := "(I)J" } : Jvm.MethodName) ({ cls := "MergeJudgeModel", name := "mean", desc := "(I)J" } : Jvm.MethodName)) ∈ lw_all := lw_g (lw_at lw_m14 138 rfl) rfl
theorem q3425 : (Jvm.Cond.code ({ cls := "MergeJudgeModel", name := "mean", desc := "(I)J" } : Jvm.MethodName) prog_22_method_152_code (2 : Nat) (Option.some Jvm.ClassFile.FieldType.long)) ∈ lw_all := lw_g (lw_at lw_m14 139 rfl) rfl
theorem q3427 : (Jvm.Cond.instanceMethod ({ cls := "MergeJudgeModel", name := "lock", desc := "(I)I" } : Jvm.MethodName)) ∈ lw_all := lw_g (lw_at lw_m14 141 rfl) rfl
theorem q3428 : (Jvm.Cond.selects "MergeJudgeModel" ({ cls := "MergeJudgeModel", name := "lock", desc := "(I)I" } : Jvm.MethodName) ({ cls := "MergeJudgeModel", name := "lock", desc := "(I)I" } : Jvm.MethodName)) ∈ lw_all := lw_g (lw_at lw_m14 142 rfl) rfl
theorem q3429 : (Jvm.Cond.code ({ cls := "MergeJudgeModel", name := "lock", desc := "(I)I" } : Jvm.MethodName) prog_22_method_154_code (2 : Nat) (Option.some Jvm.ClassFile.FieldType.int)) ∈ lw_all := lw_g (lw_at lw_m14 143 rfl) rfl
theorem q3430 : (Jvm.Cond.methodLink "MergeJudgeModel" (499 : Nat) ({ cls := "MergeJudgeModel", name := "keepAct", desc := "(I)I" } : Jvm.MethodName)) ∈ lw_all := lw_g (lw_at lw_m14 144 rfl) rfl
theorem q3431 : (Jvm.Cond.privateMethod ({ cls := "MergeJudgeModel", name := "keepAct", desc := "(I)I" } : Jvm.MethodName)) ∈ lw_tbl := lw_at lw_m14 145 rfl
theorem q3432 : (Jvm.Cond.instanceMethod ({ cls := "MergeJudgeModel", name := "keepAct", desc := "(I)I" } : Jvm.MethodName)) ∈ lw_all := lw_g (lw_at lw_m14 146 rfl) rfl
theorem q3433 : (Jvm.Cond.code ({ cls := "MergeJudgeModel", name := "keepAct", desc := "(I)I" } : Jvm.MethodName) prog_22_method_153_code (2 : Nat) (Option.some Jvm.ClassFile.FieldType.int)) ∈ lw_all := lw_g (lw_at lw_m14 147 rfl) rfl
theorem q3435 : (Jvm.Cond.instanceMethod ({ cls := "MergeJudgeModel", name := "frees", desc := "(I)I" } : Jvm.MethodName)) ∈ lw_all := lw_g (lw_at lw_m14 149 rfl) rfl
theorem q3436 : (Jvm.Cond.selects "MergeJudgeModel" ({ cls := "MergeJudgeModel", name := "frees", desc := "(I)I" } : Jvm.MethodName) ({ cls := "MergeJudgeModel", name := "frees", desc := "(I)I" } : Jvm.MethodName)) ∈ lw_all := lw_g (lw_at lw_m14 150 rfl) rfl
theorem q3437 : (Jvm.Cond.code ({ cls := "MergeJudgeModel", name := "frees", desc := "(I)I" } : Jvm.MethodName) prog_22_method_155_code (2 : Nat) (Option.some Jvm.ClassFile.FieldType.int)) ∈ lw_all := lw_g (lw_at lw_m14 151 rfl) rfl
theorem q3439 : (Jvm.Cond.instanceMethod ({ cls := "MergeJudgeModel", name := "drops", desc := "(I)I" } : Jvm.MethodName)) ∈ lw_all := lw_g (lw_at lw_m14 153 rfl) rfl
theorem q3440 : (Jvm.Cond.selects "MergeJudgeModel" ({ cls := "MergeJudgeModel", name := "drops", desc := "(I)I" } : Jvm.MethodName) ({ cls := "MergeJudgeModel", name := "drops", desc := "(I)I" } : Jvm.MethodName)) ∈ lw_all := lw_g (lw_at lw_m14 154 rfl) rfl
theorem q3441 : (Jvm.Cond.code ({ cls := "MergeJudgeModel", name := "drops", desc := "(I)I" } : Jvm.MethodName) prog_22_method_156_code (2 : Nat) (Option.some Jvm.ClassFile.FieldType.int)) ∈ lw_all := lw_g (lw_at lw_m14 155 rfl) rfl
theorem q3443 : (Jvm.Cond.instanceMethod ({ cls := "MergeJudgeModel", name := "undo", desc := "()I" } : Jvm.MethodName)) ∈ lw_all := lw_g (lw_at lw_m14 157 rfl) rfl
theorem q3444 : (Jvm.Cond.selects "MergeJudgeModel" ({ cls := "MergeJudgeModel", name := "undo", desc := "()I" } : Jvm.MethodName) ({ cls := "MergeJudgeModel", name := "undo", desc := "()I" } : Jvm.MethodName)) ∈ lw_all := lw_g (lw_at lw_m14 158 rfl) rfl
theorem q3445 : (Jvm.Cond.code ({ cls := "MergeJudgeModel", name := "undo", desc := "()I" } : Jvm.MethodName) prog_22_method_157_code (1 : Nat) (Option.some Jvm.ClassFile.FieldType.int)) ∈ lw_all := lw_g (lw_at lw_m14 159 rfl) rfl
theorem q3447 : (Jvm.Cond.instanceMethod ({ cls := "MergeJudgeModel", name := "anew", desc := "()I" } : Jvm.MethodName)) ∈ lw_all := lw_g (lw_at lw_m14 161 rfl) rfl
theorem q3448 : (Jvm.Cond.selects "MergeJudgeModel" ({ cls := "MergeJudgeModel", name := "anew", desc := "()I" } : Jvm.MethodName) ({ cls := "MergeJudgeModel", name := "anew", desc := "()I" } : Jvm.MethodName)) ∈ lw_all := lw_g (lw_at lw_m14 162 rfl) rfl
theorem q3449 : (Jvm.Cond.code ({ cls := "MergeJudgeModel", name := "anew", desc := "()I" } : Jvm.MethodName) prog_22_method_158_code (2 : Nat) (Option.some Jvm.ClassFile.FieldType.int)) ∈ lw_all := lw_g (lw_at lw_m14 163 rfl) rfl
theorem q3451 : (Jvm.Cond.instanceMethod ({ cls := "MergeJudgeModel", name := "drawn", desc := "(II)I" } : Jvm.MethodName)) ∈ lw_all := lw_g (lw_at lw_m14 165 rfl) rfl
theorem q3452 : (Jvm.Cond.selects "MergeJudgeModel" ({ cls := "MergeJudgeModel", name := "drawn", desc := "(II)I" } : Jvm.MethodName) ({ cls := "MergeJudgeModel", name := "drawn", desc := "(II)I" } : Jvm.MethodName)) ∈ lw_all := lw_g (lw_at lw_m14 166 rfl) rfl
theorem q3453 : (Jvm.Cond.code ({ cls := "MergeJudgeModel", name := "drawn", desc := "(II)I" } : Jvm.MethodName) prog_22_method_161_code (4 : Nat) (Option.some Jvm.ClassFile.FieldType.int)) ∈ lw_all := lw_g (lw_at lw_m14 167 rfl) rfl
theorem q3454 : (Jvm.Cond.methodLink "MergeJudgeModel" (514 : Nat) ({ cls := "MergeJudgeModel", name := "isSeed", desc := "(I)Z" } : Jvm.MethodName)) ∈ lw_all := lw_g (lw_at lw_m14 168 rfl) rfl
theorem q3455 : (Jvm.Cond.static ({ cls := "MergeJudgeModel", name := "isSeed", desc := "(I)Z" } : Jvm.MethodName)) ∈ lw_all := lw_g (lw_at lw_m14 169 rfl) rfl
theorem q3456 : (Jvm.Cond.code ({ cls := "MergeJudgeModel", name := "isSeed", desc := "(I)Z" } : Jvm.MethodName) prog_22_method_160_code (1 : Nat) (Option.some Jvm.ClassFile.FieldType.boolean)) ∈ lw_all := lw_g (lw_at lw_m14 170 rfl) rfl
theorem q3457 : (Jvm.Cond.constantLong "MergeJudgeModel" (512 : Nat) (2000000000 : Int64)) ∈ lw_all := lw_g (lw_at lw_m14 171 rfl) rfl
theorem q3458 : (Jvm.Cond.methodLink "MergeJudgeModel" (517 : Nat) ({ cls := "MergeJudgeModel", name := "drawnSet", desc := "(J)I" } : Jvm.MethodName)) ∈ lw_all := lw_g (lw_at lw_m14 172 rfl) rfl
theorem q3459 : (Jvm.Cond.privateMethod ({ cls := "MergeJudgeModel", name := "drawnSet", desc := "(J)I" } : Jvm.MethodName)) ∈ lw_tbl := lw_at lw_m14 173 rfl
theorem q3460 : (Jvm.Cond.instanceMethod ({ cls := "MergeJudgeModel", name := "drawnSet", desc := "(J)I" } : Jvm.MethodName)) ∈ lw_all := lw_g (lw_at lw_m14 174 rfl) rfl
theorem q3461 : (Jvm.Cond.code ({ cls := "MergeJudgeModel", name := "drawnSet", desc := "(J)I" } : Jvm.MethodName) prog_22_method_159_code (7 : Nat) (Option.some Jvm.ClassFile.FieldType.int)) ∈ lw_all := lw_g (lw_at lw_m14 175 rfl) rfl
theorem q3462 : (Jvm.Cond.constantLong "MergeJudgeModel" (502 : Nat) (1103515245 : Int64)) ∈ lw_all := lw_g (lw_at lw_m14 176 rfl) rfl
theorem q3463 : (Jvm.Cond.constantLong "MergeJudgeModel" (504 : Nat) (12345 : Int64)) ∈ lw_all := lw_g (lw_at lw_m14 177 rfl) rfl
theorem q3464 : (Jvm.Cond.constantLong "MergeJudgeModel" (506 : Nat) (2147483648 : Int64)) ∈ lw_all := lw_g (lw_at lw_m14 178 rfl) rfl
theorem q3465 : (Jvm.Cond.constantLong "MergeJudgeModel" (508 : Nat) (65536 : Int64)) ∈ lw_all := lw_g (lw_at lw_m14 179 rfl) rfl
theorem q3466 : (Jvm.Cond.constantLong "MergeJudgeModel" (510 : Nat) (10 : Int64)) ∈ lw_all := lw_g (lw_at lw_m14 180 rfl) rfl
theorem q3468 : (Jvm.Cond.instanceMethod ({ cls := "MergeJudgeModel", name := "luck", desc := "(II)I" } : Jvm.MethodName)) ∈ lw_all := lw_g (lw_at lw_m14 182 rfl) rfl
theorem q3469 : (Jvm.Cond.selects "MergeJudgeModel" ({ cls := "MergeJudgeModel", name := "luck", desc := "(II)I" } : Jvm.MethodName) ({ cls := "MergeJudgeModel", name := "luck", desc := "(II)I" } : Jvm.MethodName)) ∈ lw_all := lw_g (lw_at lw_m14 183 rfl) rfl
theorem q3470 : (Jvm.Cond.code ({ cls := "MergeJudgeModel", name := "luck", desc := "(II)I" } : Jvm.MethodName) prog_22_method_162_code (5 : Nat) (Option.some Jvm.ClassFile.FieldType.int)) ∈ lw_all := lw_g (lw_at lw_m14 184 rfl) rfl
theorem q3471 : (Jvm.Cond.constantLong "MergeJudgeModel" (521 : Nat) (20 : Int64)) ∈ lw_all := lw_g (lw_at lw_m14 185 rfl) rfl
theorem q3473 : (Jvm.Cond.instanceMethod ({ cls := "MergeJudgeModel", name := "rate", desc := "(II)I" } : Jvm.MethodName)) ∈ lw_all := lw_g (lw_at lw_m14 187 rfl) rfl
theorem q3474 : (Jvm.Cond.selects "MergeJudgeModel" ({ cls := "MergeJudgeModel", name := "rate", desc := "(II)I" } : Jvm.MethodName) ({ cls := "MergeJudgeModel", name := "rate", desc := "(II)I" } : Jvm.MethodName)) ∈ lw_all := lw_g (lw_at lw_m14 188 rfl) rfl
theorem q3475 : (Jvm.Cond.code ({ cls := "MergeJudgeModel", name := "rate", desc := "(II)I" } : Jvm.MethodName) prog_22_method_163_code (4 : Nat) (Option.some Jvm.ClassFile.FieldType.int)) ∈ lw_all := lw_g (lw_at lw_m14 189 rfl) rfl
theorem q3477 : (Jvm.Cond.instanceMethod ({ cls := "MergeJudgeModel", name := "count", desc := "(I)I" } : Jvm.MethodName)) ∈ lw_all := lw_g (lw_at lw_m14 191 rfl) rfl
theorem q3478 : (Jvm.Cond.selects "MergeJudgeModel" ({ cls := "MergeJudgeModel", name := "count", desc := "(I)I" } : Jvm.MethodName) ({ cls := "MergeJudgeModel", name := "count", desc := "(I)I" } : Jvm.MethodName)) ∈ lw_all := lw_g (lw_at lw_m14 192 rfl) rfl
theorem q3479 : (Jvm.Cond.code ({ cls := "MergeJudgeModel", name := "count", desc := "(I)I" } : Jvm.MethodName) prog_22_method_164_code (4 : Nat) (Option.some Jvm.ClassFile.FieldType.int)) ∈ lw_all := lw_g (lw_at lw_m14 193 rfl) rfl
theorem q3480 : (Jvm.Cond.constantLong "MergeJudgeModel" (523 : Nat) (7 : Int64)) ∈ lw_all := lw_g (lw_at lw_m14 194 rfl) rfl
theorem q3482 : (Jvm.Cond.instanceMethod ({ cls := "MergeJudgeModel", name := "row", desc := "(III)I" } : Jvm.MethodName)) ∈ lw_all := lw_g (lw_at lw_m14 196 rfl) rfl
theorem q3483 : (Jvm.Cond.selects "MergeJudgeModel" ({ cls := "MergeJudgeModel", name := "row", desc := "(III)I" } : Jvm.MethodName) ({ cls := "MergeJudgeModel", name := "row", desc := "(III)I" } : Jvm.MethodName)) ∈ lw_all := lw_g (lw_at lw_m14 197 rfl) rfl
theorem q3484 : (Jvm.Cond.code ({ cls := "MergeJudgeModel", name := "row", desc := "(III)I" } : Jvm.MethodName) prog_22_method_167_code (5 : Nat) (Option.some Jvm.ClassFile.FieldType.int)) ∈ lw_all := lw_g (lw_at lw_m14 198 rfl) rfl
theorem q3486 : (Jvm.Cond.instanceMethod ({ cls := "MergeJudgeModel", name := "write", desc := "(IIJ)I" } : Jvm.MethodName)) ∈ lw_all := lw_g (lw_at lw_m14 200 rfl) rfl
theorem q3487 : (Jvm.Cond.selects "MergeJudgeModel" ({ cls := "MergeJudgeModel", name := "write", desc := "(IIJ)I" } : Jvm.MethodName) ({ cls := "MergeJudgeModel", name := "write", desc := "(IIJ)I" } : Jvm.MethodName)) ∈ lw_all := lw_g (lw_at lw_m14 201 rfl) rfl
theorem q3488 : (Jvm.Cond.code ({ cls := "MergeJudgeModel", name := "write", desc := "(IIJ)I" } : Jvm.MethodName) prog_22_method_168_code (5 : Nat) (Option.some Jvm.ClassFile.FieldType.int)) ∈ lw_all := lw_g (lw_at lw_m14 202 rfl) rfl
theorem q3489 : (Jvm.Cond.methodLink "MergeJudgeModel" (525 : Nat) ({ cls := "MergeJudgeModel", name := "clipped", desc := "(JI)J" } : Jvm.MethodName)) ∈ lw_all := lw_g (lw_at lw_m14 203 rfl) rfl
theorem q3490 : (Jvm.Cond.static ({ cls := "MergeJudgeModel", name := "clipped", desc := "(JI)J" } : Jvm.MethodName)) ∈ lw_all := lw_g (lw_at lw_m14 204 rfl) rfl
theorem q3491 : (Jvm.Cond.code ({ cls := "MergeJudgeModel", name := "clipped", desc := "(JI)J" } : Jvm.MethodName) prog_22_method_166_code (4 : Nat) (Option.some Jvm.ClassFile.FieldType.long)) ∈ lw_all := lw_g (lw_at lw_m14 205 rfl) rfl
theorem q3493 : (Jvm.Cond.instanceMethod ({ cls := "MergeJudgeModel", name := "paste", desc := "(IIIII)I" } : Jvm.MethodName)) ∈ lw_all := lw_g (lw_at lw_m14 207 rfl) rfl
theorem q3494 : (Jvm.Cond.selects "MergeJudgeModel" ({ cls := "MergeJudgeModel", name := "paste", desc := "(IIIII)I" } : Jvm.MethodName) ({ cls := "MergeJudgeModel", name := "paste", desc := "(IIIII)I" } : Jvm.MethodName)) ∈ lw_all := lw_g (lw_at lw_m14 208 rfl) rfl
theorem q3495 : (Jvm.Cond.code ({ cls := "MergeJudgeModel", name := "paste", desc := "(IIIII)I" } : Jvm.MethodName) prog_22_method_169_code (7 : Nat) (Option.some Jvm.ClassFile.FieldType.int)) ∈ lw_all := lw_g (lw_at lw_m14 209 rfl) rfl
theorem q3526 : (Jvm.Cond.castable "MergeJudgeModel" "java/lang/Object") ∈ lw_tbl := lw_at lw_m15 0 rfl
theorem in_X7 : ∀ w ∈ wsX70, w ∈ lw_all := lw_in wsX70 [2700, 2702, 2704, 2706, 2708, 2710, 2712, 2714, 2716, 2718, 2720, 2722, 2724, 2726, 2728, 2730, 2732, 2734, 2736, 2738, 2740, 2742, 2744, 2746, 2748, 2750, 2752, 2754, 2756, 2758, 2760, 2762, 2764, 2766, 2768, 2770, 2772, 2774, 2776, 2778, 2780, 2782] (by decide +kernel) (by decide +kernel)
