/-! PointerAnalyzerModel -/
set_option maxRecDepth 100000
def RX4 : String := "PointerAnalyzerModel"
def TX4 : u_T := fun k => match k with
  | 0 => ("PointerAnalyzerModel", "thrown", "I", false)
  | 1 => ("PointerAnalyzerModel", "kinds", "[I", true)
  | 2 => ("PointerAnalyzerModel", "ofV", "[I", true)
  | 3 => ("PointerAnalyzerModel", "ofW", "[I", true)
  | 4 => ("PointerAnalyzerModel", "ofN", "[I", true)
  | 5 => ("PointerAnalyzerModel", "size", "[I", true)
  | 6 => ("PointerAnalyzerModel", "limit", "I", false)
  | 7 => ("PointerAnalyzerModel", "text", "[I", true)
  | 8 => ("PointerAnalyzerModel", "length", "I", false)
  | 9 => ("PointerAnalyzerModel", "at", "I", false)
  | 10 => ("PointerAnalyzerModel", "faultAt", "I", false)
  | 11 => ("PointerAnalyzerModel", "reading", "I", false)
  | 12 => ("PointerAnalyzerModel", "readNew", "I", false)
  | 13 => ("PointerAnalyzerModel", "readCalls", "I", false)
  | 14 => ("PointerAnalyzerModel", "contextFunction", "[I", true)
  | 15 => ("PointerAnalyzerModel", "contextCode", "[I", true)
  | 16 => ("PointerAnalyzerModel", "contexts", "I", false)
  | 17 => ("PointerAnalyzerModel", "points", "[J", true)
  | 18 => ("PointerAnalyzerModel", "before", "[J", true)
  | 19 => ("PointerAnalyzerModel", "isFresh", "Z", false)
  | 20 => ("PointerAnalyzerModel", "isChanged", "Z", false)
  | 21 => ("PointerAnalyzerModel", "rankOf", "[I", true)
  | 22 => ("PointerAnalyzerModel", "reasonOf", "[I", true)
  | 23 => ("PointerAnalyzerModel", "rounds", "I", false)
  | 24 => ("PointerAnalyzerModel", "parent", "[I", true)
  | 25 => ("PointerAnalyzerModel", "pointee", "[I", true)
  | 26 => ("PointerAnalyzerModel", "pairA", "[I", true)
  | 27 => ("PointerAnalyzerModel", "pairB", "[I", true)
  | 28 => ("PointerAnalyzerModel", "terms", "I", false)
  | 29 => ("PointerAnalyzerModel", "pairs", "I", false)
  | 30 => ("PointerAnalyzerModel", "memory", "[I", true)
  | 31 => ("PointerAnalyzerModel", "targetAt", "[I", true)
  | 32 => ("PointerAnalyzerModel", "stackFunction", "[I", true)
  | 33 => ("PointerAnalyzerModel", "stackNext", "[I", true)
  | 34 => ("PointerAnalyzerModel", "stackBase", "[I", true)
  | 35 => ("PointerAnalyzerModel", "seen", "[J", true)
  | 36 => ("PointerAnalyzerModel", "deep", "I", false)
  | 37 => ("PointerAnalyzerModel", "activations", "I", false)
  | 38 => ("PointerAnalyzerModel", "objectCount", "I", false)
  | 39 => ("PointerAnalyzerModel", "faultCount", "I", false)
  | 40 => ("PointerAnalyzerModel", "executed", "I", false)
  | 41 => ("PointerAnalyzerModel", "saved", "[I", true)
  | 42 => ("PointerAnalyzerModel", "isSaved", "Z", false)
  | 43 => ("PointerAnalyzerModel", "isSaving", "Z", false)
  | _ => ("PointerAnalyzerModel", "cursor", "I", false)
def tyX4 : Nat → FieldType := fun k => match k with
  | 0 => .int
  | 1 => .array .int
  | 2 => .array .int
  | 3 => .array .int
  | 4 => .array .int
  | 5 => .array .int
  | 6 => .int
  | 7 => .array .int
  | 8 => .int
  | 9 => .int
  | 10 => .int
  | 11 => .int
  | 12 => .int
  | 13 => .int
  | 14 => .array .int
  | 15 => .array .int
  | 16 => .int
  | 17 => .array .long
  | 18 => .array .long
  | 19 => .boolean
  | 20 => .boolean
  | 21 => .array .int
  | 22 => .array .int
  | 23 => .int
  | 24 => .array .int
  | 25 => .array .int
  | 26 => .array .int
  | 27 => .array .int
  | 28 => .int
  | 29 => .int
  | 30 => .array .int
  | 31 => .array .int
  | 32 => .array .int
  | 33 => .array .int
  | 34 => .array .int
  | 35 => .array .long
  | 36 => .int
  | 37 => .int
  | 38 => .int
  | 39 => .int
  | 40 => .int
  | 41 => .array .int
  | 42 => .boolean
  | 43 => .boolean
  | _ => .int
abbrev wsX40 : List Cond := u_ws RX4 TX4 45
set_option maxRecDepth 100000 in
theorem nmX4 : ∀ a, a < 45 → ∀ b, b < 45 → a ≠ b → (TX4 a).2.1 ≠ (TX4 b).2.1 := by decide +kernel
set_option maxRecDepth 100000 in
theorem tyX4_ok : ∀ k, k < 45 → parseFieldDescriptor (TX4 k).2.2.1 = some (tyX4 k) := by decide +kernel
abbrev cX4_init : ByteArray := prog_21_method_1_code
def yX4_init : MethodName := ⟨RX4, "<init>", "()V"⟩
def dkwX4_init_8 : List UInt8 := [16, 44, 188, 11, 181, 0, 78, 42, 17, 0, 200, 188, 10, 181, 0, 81, 177]
abbrev dktX4_init_8 : List UInt8 := dkwX4_init_8 ++ []
def dkwX4_init_7 : List UInt8 := [16, 6, 188, 10, 181, 0, 69, 42, 16, 6, 188, 10, 181, 0, 72, 42, 16, 6, 188, 10, 181, 0, 75, 42]
abbrev dktX4_init_7 : List UInt8 := dkwX4_init_7 ++ dktX4_init_8
def dkwX4_init_6 : List UInt8 := [188, 10, 181, 0, 60, 42, 17, 5, 132, 188, 10, 181, 0, 63, 42, 17, 5, 132, 188, 10, 181, 0, 66, 42]
abbrev dktX4_init_6 : List UInt8 := dkwX4_init_6 ++ dktX4_init_7
def dkwX4_init_5 : List UInt8 := [181, 0, 51, 42, 16, 120, 188, 10, 181, 0, 54, 42, 17, 0, 200, 188, 10, 181, 0, 57, 42, 17, 0, 200]
abbrev dktX4_init_5 : List UInt8 := dkwX4_init_5 ++ dktX4_init_6
def dkwX4_init_4 : List UInt8 := [17, 7, 144, 188, 10, 181, 0, 45, 42, 17, 7, 144, 188, 10, 181, 0, 48, 42, 16, 120, 188, 10]
abbrev dktX4_init_4 : List UInt8 := dkwX4_init_4 ++ dktX4_init_5
def dkwX4_init_3 : List UInt8 := [181, 0, 35, 42, 17, 1, 200, 188, 11, 181, 0, 38, 42, 17, 1, 200, 188, 11, 181, 0, 42, 42]
abbrev dktX4_init_3 : List UInt8 := dkwX4_init_3 ++ dktX4_init_4
def dkwX4_init_2 : List UInt8 := [188, 10, 181, 0, 25, 42, 2, 181, 0, 28, 42, 16, 32, 188, 10, 181, 0, 32, 42, 16, 32, 188, 10]
abbrev dktX4_init_2 : List UInt8 := dkwX4_init_2 ++ dktX4_init_3
def dkwX4_init_1 : List UInt8 := [188, 10, 181, 0, 16, 42, 16, 60, 188, 10, 181, 0, 19, 42, 8, 188, 10, 181, 0, 22, 42, 16, 80]
abbrev dktX4_init_1 : List UInt8 := dkwX4_init_1 ++ dktX4_init_2
def dkwX4_init_0 : List UInt8 := [42, 183, 0, 1, 42, 16, 60, 188, 10, 181, 0, 7, 42, 16, 60, 188, 10, 181, 0, 13, 42, 16, 60]
abbrev dktX4_init_0 : List UInt8 := dkwX4_init_0 ++ dktX4_init_1
theorem dksX4_init_0 : cX4_init.data.toList.drop 0 = dktX4_init_0 := by decide +kernel
theorem dksX4_init_1 : cX4_init.data.toList.drop 23 = dktX4_init_1 := dk_seg dksX4_init_0 23 rfl rfl
theorem dksX4_init_2 : cX4_init.data.toList.drop 46 = dktX4_init_2 := dk_seg dksX4_init_1 23 rfl rfl
theorem dksX4_init_3 : cX4_init.data.toList.drop 69 = dktX4_init_3 := dk_seg dksX4_init_2 23 rfl rfl
theorem dksX4_init_4 : cX4_init.data.toList.drop 91 = dktX4_init_4 := dk_seg dksX4_init_3 22 rfl rfl
theorem dksX4_init_5 : cX4_init.data.toList.drop 113 = dktX4_init_5 := dk_seg dksX4_init_4 22 rfl rfl
theorem dksX4_init_6 : cX4_init.data.toList.drop 137 = dktX4_init_6 := dk_seg dksX4_init_5 24 rfl rfl
theorem dksX4_init_7 : cX4_init.data.toList.drop 161 = dktX4_init_7 := dk_seg dksX4_init_6 24 rfl rfl
theorem dksX4_init_8 : cX4_init.data.toList.drop 185 = dktX4_init_8 := dk_seg dksX4_init_7 24 rfl rfl
theorem dX4_init_0 : decode cX4_init 0 = .ok (.aload_n 0, 1) := dk_42 (dk_at dksX4_init_0 0 rfl rfl)
theorem dX4_init_1 : decode cX4_init 1 = .ok (.invokespecial 1, 3) := dk_183 0 1 (dk_at dksX4_init_0 1 rfl rfl)
theorem dX4_init_4 : decode cX4_init 4 = .ok (.aload_n 0, 1) := dk_42 (dk_at dksX4_init_0 4 rfl rfl)
theorem dX4_init_5 : decode cX4_init 5 = .ok (.bipush 60, 2) := dk_16 60 (dk_at dksX4_init_0 5 rfl rfl)
theorem dX4_init_7 : decode cX4_init 7 = .ok (.newarray .int, 2) := dk_188_10 (dk_at dksX4_init_0 7 rfl rfl)
theorem dX4_init_9 : decode cX4_init 9 = .ok (.putfield 7, 3) := dk_181 0 7 (dk_at dksX4_init_0 9 rfl rfl)
theorem dX4_init_12 : decode cX4_init 12 = .ok (.aload_n 0, 1) := dk_42 (dk_at dksX4_init_0 12 rfl rfl)
theorem dX4_init_13 : decode cX4_init 13 = .ok (.bipush 60, 2) := dk_16 60 (dk_at dksX4_init_0 13 rfl rfl)
theorem dX4_init_15 : decode cX4_init 15 = .ok (.newarray .int, 2) := dk_188_10 (dk_at dksX4_init_0 15 rfl rfl)
theorem dX4_init_17 : decode cX4_init 17 = .ok (.putfield 13, 3) := dk_181 0 13 (dk_at dksX4_init_0 17 rfl rfl)
theorem dX4_init_20 : decode cX4_init 20 = .ok (.aload_n 0, 1) := dk_42 (dk_at dksX4_init_0 20 rfl rfl)
theorem dX4_init_21 : decode cX4_init 21 = .ok (.bipush 60, 2) := dk_16 60 (dk_at dksX4_init_0 21 rfl rfl)
theorem dX4_init_23 : decode cX4_init 23 = .ok (.newarray .int, 2) := dk_188_10 (dk_at dksX4_init_1 0 rfl rfl)
theorem dX4_init_25 : decode cX4_init 25 = .ok (.putfield 16, 3) := dk_181 0 16 (dk_at dksX4_init_1 2 rfl rfl)
theorem dX4_init_28 : decode cX4_init 28 = .ok (.aload_n 0, 1) := dk_42 (dk_at dksX4_init_1 5 rfl rfl)
theorem dX4_init_29 : decode cX4_init 29 = .ok (.bipush 60, 2) := dk_16 60 (dk_at dksX4_init_1 6 rfl rfl)
theorem dX4_init_31 : decode cX4_init 31 = .ok (.newarray .int, 2) := dk_188_10 (dk_at dksX4_init_1 8 rfl rfl)
theorem dX4_init_33 : decode cX4_init 33 = .ok (.putfield 19, 3) := dk_181 0 19 (dk_at dksX4_init_1 10 rfl rfl)
theorem dX4_init_36 : decode cX4_init 36 = .ok (.aload_n 0, 1) := dk_42 (dk_at dksX4_init_1 13 rfl rfl)
theorem dX4_init_37 : decode cX4_init 37 = .ok (.iconst 5, 1) := dk_8 (dk_at dksX4_init_1 14 rfl rfl)
theorem dX4_init_38 : decode cX4_init 38 = .ok (.newarray .int, 2) := dk_188_10 (dk_at dksX4_init_1 15 rfl rfl)
theorem dX4_init_40 : decode cX4_init 40 = .ok (.putfield 22, 3) := dk_181 0 22 (dk_at dksX4_init_1 17 rfl rfl)
theorem dX4_init_43 : decode cX4_init 43 = .ok (.aload_n 0, 1) := dk_42 (dk_at dksX4_init_1 20 rfl rfl)
theorem dX4_init_44 : decode cX4_init 44 = .ok (.bipush 80, 2) := dk_16 80 (dk_at dksX4_init_1 21 rfl rfl)
theorem dX4_init_46 : decode cX4_init 46 = .ok (.newarray .int, 2) := dk_188_10 (dk_at dksX4_init_2 0 rfl rfl)
theorem dX4_init_48 : decode cX4_init 48 = .ok (.putfield 25, 3) := dk_181 0 25 (dk_at dksX4_init_2 2 rfl rfl)
theorem dX4_init_51 : decode cX4_init 51 = .ok (.aload_n 0, 1) := dk_42 (dk_at dksX4_init_2 5 rfl rfl)
theorem dX4_init_52 : decode cX4_init 52 = .ok (.iconst (-1), 1) := dk_2 (dk_at dksX4_init_2 6 rfl rfl)
theorem dX4_init_53 : decode cX4_init 53 = .ok (.putfield 28, 3) := dk_181 0 28 (dk_at dksX4_init_2 7 rfl rfl)
theorem dX4_init_56 : decode cX4_init 56 = .ok (.aload_n 0, 1) := dk_42 (dk_at dksX4_init_2 10 rfl rfl)
theorem dX4_init_57 : decode cX4_init 57 = .ok (.bipush 32, 2) := dk_16 32 (dk_at dksX4_init_2 11 rfl rfl)
theorem dX4_init_59 : decode cX4_init 59 = .ok (.newarray .int, 2) := dk_188_10 (dk_at dksX4_init_2 13 rfl rfl)
theorem dX4_init_61 : decode cX4_init 61 = .ok (.putfield 32, 3) := dk_181 0 32 (dk_at dksX4_init_2 15 rfl rfl)
theorem dX4_init_64 : decode cX4_init 64 = .ok (.aload_n 0, 1) := dk_42 (dk_at dksX4_init_2 18 rfl rfl)
theorem dX4_init_65 : decode cX4_init 65 = .ok (.bipush 32, 2) := dk_16 32 (dk_at dksX4_init_2 19 rfl rfl)
theorem dX4_init_67 : decode cX4_init 67 = .ok (.newarray .int, 2) := dk_188_10 (dk_at dksX4_init_2 21 rfl rfl)
theorem dX4_init_69 : decode cX4_init 69 = .ok (.putfield 35, 3) := dk_181 0 35 (dk_at dksX4_init_3 0 rfl rfl)
theorem dX4_init_72 : decode cX4_init 72 = .ok (.aload_n 0, 1) := dk_42 (dk_at dksX4_init_3 3 rfl rfl)
theorem dX4_init_73 : decode cX4_init 73 = .ok (.sipush 456, 3) := dk_17 1 200 (dk_at dksX4_init_3 4 rfl rfl)
theorem dX4_init_76 : decode cX4_init 76 = .ok (.newarray .long, 2) := dk_188_11 (dk_at dksX4_init_3 7 rfl rfl)
theorem dX4_init_78 : decode cX4_init 78 = .ok (.putfield 38, 3) := dk_181 0 38 (dk_at dksX4_init_3 9 rfl rfl)
theorem dX4_init_81 : decode cX4_init 81 = .ok (.aload_n 0, 1) := dk_42 (dk_at dksX4_init_3 12 rfl rfl)
theorem dX4_init_82 : decode cX4_init 82 = .ok (.sipush 456, 3) := dk_17 1 200 (dk_at dksX4_init_3 13 rfl rfl)
theorem dX4_init_85 : decode cX4_init 85 = .ok (.newarray .long, 2) := dk_188_11 (dk_at dksX4_init_3 16 rfl rfl)
theorem dX4_init_87 : decode cX4_init 87 = .ok (.putfield 42, 3) := dk_181 0 42 (dk_at dksX4_init_3 18 rfl rfl)
theorem dX4_init_90 : decode cX4_init 90 = .ok (.aload_n 0, 1) := dk_42 (dk_at dksX4_init_3 21 rfl rfl)
theorem dX4_init_91 : decode cX4_init 91 = .ok (.sipush 1936, 3) := dk_17 7 144 (dk_at dksX4_init_4 0 rfl rfl)
theorem dX4_init_94 : decode cX4_init 94 = .ok (.newarray .int, 2) := dk_188_10 (dk_at dksX4_init_4 3 rfl rfl)
theorem dX4_init_96 : decode cX4_init 96 = .ok (.putfield 45, 3) := dk_181 0 45 (dk_at dksX4_init_4 5 rfl rfl)
theorem dX4_init_99 : decode cX4_init 99 = .ok (.aload_n 0, 1) := dk_42 (dk_at dksX4_init_4 8 rfl rfl)
theorem dX4_init_100 : decode cX4_init 100 = .ok (.sipush 1936, 3) := dk_17 7 144 (dk_at dksX4_init_4 9 rfl rfl)
theorem dX4_init_103 : decode cX4_init 103 = .ok (.newarray .int, 2) := dk_188_10 (dk_at dksX4_init_4 12 rfl rfl)
theorem dX4_init_105 : decode cX4_init 105 = .ok (.putfield 48, 3) := dk_181 0 48 (dk_at dksX4_init_4 14 rfl rfl)
theorem dX4_init_108 : decode cX4_init 108 = .ok (.aload_n 0, 1) := dk_42 (dk_at dksX4_init_4 17 rfl rfl)
theorem dX4_init_109 : decode cX4_init 109 = .ok (.bipush 120, 2) := dk_16 120 (dk_at dksX4_init_4 18 rfl rfl)
theorem dX4_init_111 : decode cX4_init 111 = .ok (.newarray .int, 2) := dk_188_10 (dk_at dksX4_init_4 20 rfl rfl)
theorem dX4_init_113 : decode cX4_init 113 = .ok (.putfield 51, 3) := dk_181 0 51 (dk_at dksX4_init_5 0 rfl rfl)
theorem dX4_init_116 : decode cX4_init 116 = .ok (.aload_n 0, 1) := dk_42 (dk_at dksX4_init_5 3 rfl rfl)
theorem dX4_init_117 : decode cX4_init 117 = .ok (.bipush 120, 2) := dk_16 120 (dk_at dksX4_init_5 4 rfl rfl)
theorem dX4_init_119 : decode cX4_init 119 = .ok (.newarray .int, 2) := dk_188_10 (dk_at dksX4_init_5 6 rfl rfl)
theorem dX4_init_121 : decode cX4_init 121 = .ok (.putfield 54, 3) := dk_181 0 54 (dk_at dksX4_init_5 8 rfl rfl)
theorem dX4_init_124 : decode cX4_init 124 = .ok (.aload_n 0, 1) := dk_42 (dk_at dksX4_init_5 11 rfl rfl)
theorem dX4_init_125 : decode cX4_init 125 = .ok (.sipush 200, 3) := dk_17 0 200 (dk_at dksX4_init_5 12 rfl rfl)
theorem dX4_init_128 : decode cX4_init 128 = .ok (.newarray .int, 2) := dk_188_10 (dk_at dksX4_init_5 15 rfl rfl)
theorem dX4_init_130 : decode cX4_init 130 = .ok (.putfield 57, 3) := dk_181 0 57 (dk_at dksX4_init_5 17 rfl rfl)
theorem dX4_init_133 : decode cX4_init 133 = .ok (.aload_n 0, 1) := dk_42 (dk_at dksX4_init_5 20 rfl rfl)
theorem dX4_init_134 : decode cX4_init 134 = .ok (.sipush 200, 3) := dk_17 0 200 (dk_at dksX4_init_5 21 rfl rfl)
theorem dX4_init_137 : decode cX4_init 137 = .ok (.newarray .int, 2) := dk_188_10 (dk_at dksX4_init_6 0 rfl rfl)
theorem dX4_init_139 : decode cX4_init 139 = .ok (.putfield 60, 3) := dk_181 0 60 (dk_at dksX4_init_6 2 rfl rfl)
theorem dX4_init_142 : decode cX4_init 142 = .ok (.aload_n 0, 1) := dk_42 (dk_at dksX4_init_6 5 rfl rfl)
theorem dX4_init_143 : decode cX4_init 143 = .ok (.sipush 1412, 3) := dk_17 5 132 (dk_at dksX4_init_6 6 rfl rfl)
theorem dX4_init_146 : decode cX4_init 146 = .ok (.newarray .int, 2) := dk_188_10 (dk_at dksX4_init_6 9 rfl rfl)
theorem dX4_init_148 : decode cX4_init 148 = .ok (.putfield 63, 3) := dk_181 0 63 (dk_at dksX4_init_6 11 rfl rfl)
theorem dX4_init_151 : decode cX4_init 151 = .ok (.aload_n 0, 1) := dk_42 (dk_at dksX4_init_6 14 rfl rfl)
theorem dX4_init_152 : decode cX4_init 152 = .ok (.sipush 1412, 3) := dk_17 5 132 (dk_at dksX4_init_6 15 rfl rfl)
theorem dX4_init_155 : decode cX4_init 155 = .ok (.newarray .int, 2) := dk_188_10 (dk_at dksX4_init_6 18 rfl rfl)
theorem dX4_init_157 : decode cX4_init 157 = .ok (.putfield 66, 3) := dk_181 0 66 (dk_at dksX4_init_6 20 rfl rfl)
theorem dX4_init_160 : decode cX4_init 160 = .ok (.aload_n 0, 1) := dk_42 (dk_at dksX4_init_6 23 rfl rfl)
theorem dX4_init_161 : decode cX4_init 161 = .ok (.bipush 6, 2) := dk_16 6 (dk_at dksX4_init_7 0 rfl rfl)
theorem dX4_init_163 : decode cX4_init 163 = .ok (.newarray .int, 2) := dk_188_10 (dk_at dksX4_init_7 2 rfl rfl)
theorem dX4_init_165 : decode cX4_init 165 = .ok (.putfield 69, 3) := dk_181 0 69 (dk_at dksX4_init_7 4 rfl rfl)
theorem dX4_init_168 : decode cX4_init 168 = .ok (.aload_n 0, 1) := dk_42 (dk_at dksX4_init_7 7 rfl rfl)
theorem dX4_init_169 : decode cX4_init 169 = .ok (.bipush 6, 2) := dk_16 6 (dk_at dksX4_init_7 8 rfl rfl)
theorem dX4_init_171 : decode cX4_init 171 = .ok (.newarray .int, 2) := dk_188_10 (dk_at dksX4_init_7 10 rfl rfl)
theorem dX4_init_173 : decode cX4_init 173 = .ok (.putfield 72, 3) := dk_181 0 72 (dk_at dksX4_init_7 12 rfl rfl)
theorem dX4_init_176 : decode cX4_init 176 = .ok (.aload_n 0, 1) := dk_42 (dk_at dksX4_init_7 15 rfl rfl)
theorem dX4_init_177 : decode cX4_init 177 = .ok (.bipush 6, 2) := dk_16 6 (dk_at dksX4_init_7 16 rfl rfl)
theorem dX4_init_179 : decode cX4_init 179 = .ok (.newarray .int, 2) := dk_188_10 (dk_at dksX4_init_7 18 rfl rfl)
theorem dX4_init_181 : decode cX4_init 181 = .ok (.putfield 75, 3) := dk_181 0 75 (dk_at dksX4_init_7 20 rfl rfl)
theorem dX4_init_184 : decode cX4_init 184 = .ok (.aload_n 0, 1) := dk_42 (dk_at dksX4_init_7 23 rfl rfl)
theorem dX4_init_185 : decode cX4_init 185 = .ok (.bipush 44, 2) := dk_16 44 (dk_at dksX4_init_8 0 rfl rfl)
theorem dX4_init_187 : decode cX4_init 187 = .ok (.newarray .long, 2) := dk_188_11 (dk_at dksX4_init_8 2 rfl rfl)
theorem dX4_init_189 : decode cX4_init 189 = .ok (.putfield 78, 3) := dk_181 0 78 (dk_at dksX4_init_8 4 rfl rfl)
theorem dX4_init_192 : decode cX4_init 192 = .ok (.aload_n 0, 1) := dk_42 (dk_at dksX4_init_8 7 rfl rfl)
theorem dX4_init_193 : decode cX4_init 193 = .ok (.sipush 200, 3) := dk_17 0 200 (dk_at dksX4_init_8 8 rfl rfl)
theorem dX4_init_196 : decode cX4_init 196 = .ok (.newarray .int, 2) := dk_188_10 (dk_at dksX4_init_8 11 rfl rfl)
theorem dX4_init_198 : decode cX4_init 198 = .ok (.putfield 81, 3) := dk_181 0 81 (dk_at dksX4_init_8 13 rfl rfl)
theorem dX4_init_201 : decode cX4_init 201 = .ok (.return_, 1) := dk_177 (dk_at dksX4_init_8 16 rfl rfl)
abbrev cX4_thrown : ByteArray := prog_21_method_2_code
def yX4_thrown : MethodName := ⟨RX4, "thrown", "()I"⟩
theorem dX4_thrown_0 : decode cX4_thrown 0 = .ok (.aload_n 0, 1) := by decide +kernel
theorem dX4_thrown_1 : decode cX4_thrown 1 = .ok (.getfield 84, 3) := by decide +kernel
theorem dX4_thrown_4 : decode cX4_thrown 4 = .ok (.ireturn, 1) := by decide +kernel
abbrev cX4_appendCharacter : ByteArray := prog_21_method_14_code
def yX4_appendCharacter : MethodName := ⟨RX4, "appendCharacter", "(I)I"⟩
def dkwX4_appendCharacter_2 : List UInt8 := [42, 89, 180, 0, 101, 4, 96, 181, 0, 101, 42, 180, 0, 101, 172]
abbrev dktX4_appendCharacter_2 : List UInt8 := dkwX4_appendCharacter_2 ++ []
def dkwX4_appendCharacter_1 : List UInt8 := [160, 0, 9, 42, 5, 182, 0, 98, 172, 42, 3, 181, 0, 84, 42, 180, 0, 25, 42, 180, 0, 101, 27, 79]
abbrev dktX4_appendCharacter_1 : List UInt8 := dkwX4_appendCharacter_1 ++ dktX4_appendCharacter_2
def dkwX4_appendCharacter_0 : List UInt8 := [27, 16, 33, 16, 126, 184, 0, 94, 154, 0, 9, 42, 4, 182, 0, 98, 172, 42, 180, 0, 101, 16, 80]
abbrev dktX4_appendCharacter_0 : List UInt8 := dkwX4_appendCharacter_0 ++ dktX4_appendCharacter_1
theorem dksX4_appendCharacter_0 : cX4_appendCharacter.data.toList.drop 0 = dktX4_appendCharacter_0 := by decide +kernel
theorem dksX4_appendCharacter_1 : cX4_appendCharacter.data.toList.drop 23 = dktX4_appendCharacter_1 := dk_seg dksX4_appendCharacter_0 23 rfl rfl
theorem dksX4_appendCharacter_2 : cX4_appendCharacter.data.toList.drop 47 = dktX4_appendCharacter_2 := dk_seg dksX4_appendCharacter_1 24 rfl rfl
theorem dX4_appendCharacter_0 : decode cX4_appendCharacter 0 = .ok (.iload_n 1, 1) := dk_27 (dk_at dksX4_appendCharacter_0 0 rfl rfl)
theorem dX4_appendCharacter_1 : decode cX4_appendCharacter 1 = .ok (.bipush 33, 2) := dk_16 33 (dk_at dksX4_appendCharacter_0 1 rfl rfl)
theorem dX4_appendCharacter_3 : decode cX4_appendCharacter 3 = .ok (.bipush 126, 2) := dk_16 126 (dk_at dksX4_appendCharacter_0 3 rfl rfl)
theorem dX4_appendCharacter_5 : decode cX4_appendCharacter 5 = .ok (.invokestatic 94, 3) := dk_184 0 94 (dk_at dksX4_appendCharacter_0 5 rfl rfl)
theorem dX4_appendCharacter_8 : decode cX4_appendCharacter 8 = .ok (.ifCond .ne 9, 3) := dk_154 0 9 (dk_at dksX4_appendCharacter_0 8 rfl rfl)
theorem dX4_appendCharacter_11 : decode cX4_appendCharacter 11 = .ok (.aload_n 0, 1) := dk_42 (dk_at dksX4_appendCharacter_0 11 rfl rfl)
theorem dX4_appendCharacter_12 : decode cX4_appendCharacter 12 = .ok (.iconst 1, 1) := dk_4 (dk_at dksX4_appendCharacter_0 12 rfl rfl)
theorem dX4_appendCharacter_13 : decode cX4_appendCharacter 13 = .ok (.invokevirtual 98, 3) := dk_182 0 98 (dk_at dksX4_appendCharacter_0 13 rfl rfl)
theorem dX4_appendCharacter_16 : decode cX4_appendCharacter 16 = .ok (.ireturn, 1) := dk_172 (dk_at dksX4_appendCharacter_0 16 rfl rfl)
theorem dX4_appendCharacter_17 : decode cX4_appendCharacter 17 = .ok (.aload_n 0, 1) := dk_42 (dk_at dksX4_appendCharacter_0 17 rfl rfl)
theorem dX4_appendCharacter_18 : decode cX4_appendCharacter 18 = .ok (.getfield 101, 3) := dk_180 0 101 (dk_at dksX4_appendCharacter_0 18 rfl rfl)
theorem dX4_appendCharacter_21 : decode cX4_appendCharacter 21 = .ok (.bipush 80, 2) := dk_16 80 (dk_at dksX4_appendCharacter_0 21 rfl rfl)
theorem dX4_appendCharacter_23 : decode cX4_appendCharacter 23 = .ok (.if_icmp .ne 9, 3) := dk_160 0 9 (dk_at dksX4_appendCharacter_1 0 rfl rfl)
theorem dX4_appendCharacter_26 : decode cX4_appendCharacter 26 = .ok (.aload_n 0, 1) := dk_42 (dk_at dksX4_appendCharacter_1 3 rfl rfl)
theorem dX4_appendCharacter_27 : decode cX4_appendCharacter 27 = .ok (.iconst 2, 1) := dk_5 (dk_at dksX4_appendCharacter_1 4 rfl rfl)
theorem dX4_appendCharacter_28 : decode cX4_appendCharacter 28 = .ok (.invokevirtual 98, 3) := dk_182 0 98 (dk_at dksX4_appendCharacter_1 5 rfl rfl)
theorem dX4_appendCharacter_31 : decode cX4_appendCharacter 31 = .ok (.ireturn, 1) := dk_172 (dk_at dksX4_appendCharacter_1 8 rfl rfl)
theorem dX4_appendCharacter_32 : decode cX4_appendCharacter 32 = .ok (.aload_n 0, 1) := dk_42 (dk_at dksX4_appendCharacter_1 9 rfl rfl)
theorem dX4_appendCharacter_33 : decode cX4_appendCharacter 33 = .ok (.iconst 0, 1) := dk_3 (dk_at dksX4_appendCharacter_1 10 rfl rfl)
theorem dX4_appendCharacter_34 : decode cX4_appendCharacter 34 = .ok (.putfield 84, 3) := dk_181 0 84 (dk_at dksX4_appendCharacter_1 11 rfl rfl)
theorem dX4_appendCharacter_37 : decode cX4_appendCharacter 37 = .ok (.aload_n 0, 1) := dk_42 (dk_at dksX4_appendCharacter_1 14 rfl rfl)
theorem dX4_appendCharacter_38 : decode cX4_appendCharacter 38 = .ok (.getfield 25, 3) := dk_180 0 25 (dk_at dksX4_appendCharacter_1 15 rfl rfl)
theorem dX4_appendCharacter_41 : decode cX4_appendCharacter 41 = .ok (.aload_n 0, 1) := dk_42 (dk_at dksX4_appendCharacter_1 18 rfl rfl)
theorem dX4_appendCharacter_42 : decode cX4_appendCharacter 42 = .ok (.getfield 101, 3) := dk_180 0 101 (dk_at dksX4_appendCharacter_1 19 rfl rfl)
theorem dX4_appendCharacter_45 : decode cX4_appendCharacter 45 = .ok (.iload_n 1, 1) := dk_27 (dk_at dksX4_appendCharacter_1 22 rfl rfl)
theorem dX4_appendCharacter_46 : decode cX4_appendCharacter 46 = .ok (.iastore, 1) := dk_79 (dk_at dksX4_appendCharacter_1 23 rfl rfl)
theorem dX4_appendCharacter_47 : decode cX4_appendCharacter 47 = .ok (.aload_n 0, 1) := dk_42 (dk_at dksX4_appendCharacter_2 0 rfl rfl)
theorem dX4_appendCharacter_48 : decode cX4_appendCharacter 48 = .ok (.dup, 1) := dk_89 (dk_at dksX4_appendCharacter_2 1 rfl rfl)
theorem dX4_appendCharacter_49 : decode cX4_appendCharacter 49 = .ok (.getfield 101, 3) := dk_180 0 101 (dk_at dksX4_appendCharacter_2 2 rfl rfl)
theorem dX4_appendCharacter_52 : decode cX4_appendCharacter 52 = .ok (.iconst 1, 1) := dk_4 (dk_at dksX4_appendCharacter_2 5 rfl rfl)
theorem dX4_appendCharacter_53 : decode cX4_appendCharacter 53 = .ok (.iadd, 1) := dk_96 (dk_at dksX4_appendCharacter_2 6 rfl rfl)
theorem dX4_appendCharacter_54 : decode cX4_appendCharacter 54 = .ok (.putfield 101, 3) := dk_181 0 101 (dk_at dksX4_appendCharacter_2 7 rfl rfl)
theorem dX4_appendCharacter_57 : decode cX4_appendCharacter 57 = .ok (.aload_n 0, 1) := dk_42 (dk_at dksX4_appendCharacter_2 10 rfl rfl)
theorem dX4_appendCharacter_58 : decode cX4_appendCharacter 58 = .ok (.getfield 101, 3) := dk_180 0 101 (dk_at dksX4_appendCharacter_2 11 rfl rfl)
theorem dX4_appendCharacter_61 : decode cX4_appendCharacter 61 = .ok (.ireturn, 1) := dk_172 (dk_at dksX4_appendCharacter_2 14 rfl rfl)
abbrev cX4_isBetween : ByteArray := prog_21_method_5_code
def yX4_isBetween : MethodName := ⟨RX4, "isBetween", "(III)Z"⟩
def dkwX4_isBetween_0 : List UInt8 := [26, 27, 161, 0, 12, 26, 28, 163, 0, 7, 4, 167, 0, 4, 3, 172]
abbrev dktX4_isBetween_0 : List UInt8 := dkwX4_isBetween_0 ++ []
theorem dksX4_isBetween_0 : cX4_isBetween.data.toList.drop 0 = dktX4_isBetween_0 := by decide +kernel
theorem dX4_isBetween_0 : decode cX4_isBetween 0 = .ok (.iload_n 0, 1) := dk_26 (dk_at dksX4_isBetween_0 0 rfl rfl)
theorem dX4_isBetween_1 : decode cX4_isBetween 1 = .ok (.iload_n 1, 1) := dk_27 (dk_at dksX4_isBetween_0 1 rfl rfl)
theorem dX4_isBetween_2 : decode cX4_isBetween 2 = .ok (.if_icmp .lt 12, 3) := dk_161 0 12 (dk_at dksX4_isBetween_0 2 rfl rfl)
theorem dX4_isBetween_5 : decode cX4_isBetween 5 = .ok (.iload_n 0, 1) := dk_26 (dk_at dksX4_isBetween_0 5 rfl rfl)
theorem dX4_isBetween_6 : decode cX4_isBetween 6 = .ok (.iload_n 2, 1) := dk_28 (dk_at dksX4_isBetween_0 6 rfl rfl)
theorem dX4_isBetween_7 : decode cX4_isBetween 7 = .ok (.if_icmp .gt 7, 3) := dk_163 0 7 (dk_at dksX4_isBetween_0 7 rfl rfl)
theorem dX4_isBetween_10 : decode cX4_isBetween 10 = .ok (.iconst 1, 1) := dk_4 (dk_at dksX4_isBetween_0 10 rfl rfl)
theorem dX4_isBetween_11 : decode cX4_isBetween 11 = .ok (.goto 4, 3) := dk_167 0 4 (dk_at dksX4_isBetween_0 11 rfl rfl)
theorem dX4_isBetween_14 : decode cX4_isBetween 14 = .ok (.iconst 0, 1) := dk_3 (dk_at dksX4_isBetween_0 14 rfl rfl)
theorem dX4_isBetween_15 : decode cX4_isBetween 15 = .ok (.ireturn, 1) := dk_172 (dk_at dksX4_isBetween_0 15 rfl rfl)
abbrev cX4_fails : ByteArray := prog_21_method_3_code
def yX4_fails : MethodName := ⟨RX4, "fails", "(I)I"⟩
def dkwX4_fails_0 : List UInt8 := [42, 27, 181, 0, 84, 3, 172]
abbrev dktX4_fails_0 : List UInt8 := dkwX4_fails_0 ++ []
theorem dksX4_fails_0 : cX4_fails.data.toList.drop 0 = dktX4_fails_0 := by decide +kernel
theorem dX4_fails_0 : decode cX4_fails 0 = .ok (.aload_n 0, 1) := dk_42 (dk_at dksX4_fails_0 0 rfl rfl)
theorem dX4_fails_1 : decode cX4_fails 1 = .ok (.iload_n 1, 1) := dk_27 (dk_at dksX4_fails_0 1 rfl rfl)
theorem dX4_fails_2 : decode cX4_fails 2 = .ok (.putfield 84, 3) := dk_181 0 84 (dk_at dksX4_fails_0 2 rfl rfl)
theorem dX4_fails_5 : decode cX4_fails 5 = .ok (.iconst 0, 1) := dk_3 (dk_at dksX4_fails_0 5 rfl rfl)
theorem dX4_fails_6 : decode cX4_fails 6 = .ok (.ireturn, 1) := dk_172 (dk_at dksX4_fails_0 6 rfl rfl)
abbrev cX4_setBody : ByteArray := prog_21_method_25_code
def yX4_setBody : MethodName := ⟨RX4, "setBody", "(I)I"⟩
def dkwX4_setBody_5 : List UInt8 := [181, 0, 155, 42, 182, 0, 159, 42, 180, 0, 22, 27, 46, 172]
abbrev dktX4_setBody_5 : List UInt8 := dkwX4_setBody_5 ++ []
def dkwX4_setBody_4 : List UInt8 := [164, 0, 9, 42, 6, 182, 0, 98, 172, 42, 3, 181, 0, 84, 42, 7, 27, 182, 0, 151, 42, 3]
abbrev dktX4_setBody_4 : List UInt8 := dkwX4_setBody_4 ++ dktX4_setBody_5
def dkwX4_setBody_3 : List UInt8 := [182, 0, 147, 96, 16, 8, 163, 0, 19, 42, 180, 0, 114, 42, 16, 6, 27, 182, 0, 147, 96, 8]
abbrev dktX4_setBody_3 : List UInt8 := dkwX4_setBody_3 ++ dktX4_setBody_4
def dkwX4_setBody_2 : List UInt8 := [182, 0, 98, 172, 42, 180, 0, 22, 7, 46, 16, 12, 163, 0, 35, 42, 180, 0, 111, 42, 7, 27]
abbrev dktX4_setBody_2 : List UInt8 := dkwX4_setBody_2 ++ dktX4_setBody_3
def dkwX4_setBody_1 : List UInt8 := [42, 28, 153, 0, 7, 2, 167, 0, 7, 42, 180, 0, 104, 181, 0, 28, 28, 154, 0, 9, 42, 5]
abbrev dktX4_setBody_1 : List UInt8 := dkwX4_setBody_1 ++ dktX4_setBody_2
def dkwX4_setBody_0 : List UInt8 := [27, 184, 0, 141, 154, 0, 9, 42, 4, 182, 0, 98, 172, 42, 27, 182, 0, 144, 61, 42, 3, 181, 0, 101]
abbrev dktX4_setBody_0 : List UInt8 := dkwX4_setBody_0 ++ dktX4_setBody_1
theorem dksX4_setBody_0 : cX4_setBody.data.toList.drop 0 = dktX4_setBody_0 := by decide +kernel
theorem dksX4_setBody_1 : cX4_setBody.data.toList.drop 24 = dktX4_setBody_1 := dk_seg dksX4_setBody_0 24 rfl rfl
theorem dksX4_setBody_2 : cX4_setBody.data.toList.drop 46 = dktX4_setBody_2 := dk_seg dksX4_setBody_1 22 rfl rfl
theorem dksX4_setBody_3 : cX4_setBody.data.toList.drop 68 = dktX4_setBody_3 := dk_seg dksX4_setBody_2 22 rfl rfl
theorem dksX4_setBody_4 : cX4_setBody.data.toList.drop 90 = dktX4_setBody_4 := dk_seg dksX4_setBody_3 22 rfl rfl
theorem dksX4_setBody_5 : cX4_setBody.data.toList.drop 112 = dktX4_setBody_5 := dk_seg dksX4_setBody_4 22 rfl rfl
theorem dX4_setBody_0 : decode cX4_setBody 0 = .ok (.iload_n 1, 1) := dk_27 (dk_at dksX4_setBody_0 0 rfl rfl)
theorem dX4_setBody_1 : decode cX4_setBody 1 = .ok (.invokestatic 141, 3) := dk_184 0 141 (dk_at dksX4_setBody_0 1 rfl rfl)
theorem dX4_setBody_4 : decode cX4_setBody 4 = .ok (.ifCond .ne 9, 3) := dk_154 0 9 (dk_at dksX4_setBody_0 4 rfl rfl)
theorem dX4_setBody_7 : decode cX4_setBody 7 = .ok (.aload_n 0, 1) := dk_42 (dk_at dksX4_setBody_0 7 rfl rfl)
theorem dX4_setBody_8 : decode cX4_setBody 8 = .ok (.iconst 1, 1) := dk_4 (dk_at dksX4_setBody_0 8 rfl rfl)
theorem dX4_setBody_9 : decode cX4_setBody 9 = .ok (.invokevirtual 98, 3) := dk_182 0 98 (dk_at dksX4_setBody_0 9 rfl rfl)
theorem dX4_setBody_12 : decode cX4_setBody 12 = .ok (.ireturn, 1) := dk_172 (dk_at dksX4_setBody_0 12 rfl rfl)
theorem dX4_setBody_13 : decode cX4_setBody 13 = .ok (.aload_n 0, 1) := dk_42 (dk_at dksX4_setBody_0 13 rfl rfl)
theorem dX4_setBody_14 : decode cX4_setBody 14 = .ok (.iload_n 1, 1) := dk_27 (dk_at dksX4_setBody_0 14 rfl rfl)
theorem dX4_setBody_15 : decode cX4_setBody 15 = .ok (.invokevirtual 144, 3) := dk_182 0 144 (dk_at dksX4_setBody_0 15 rfl rfl)
theorem dX4_setBody_18 : decode cX4_setBody 18 = .ok (.istore_n 2, 1) := dk_61 (dk_at dksX4_setBody_0 18 rfl rfl)
theorem dX4_setBody_19 : decode cX4_setBody 19 = .ok (.aload_n 0, 1) := dk_42 (dk_at dksX4_setBody_0 19 rfl rfl)
theorem dX4_setBody_20 : decode cX4_setBody 20 = .ok (.iconst 0, 1) := dk_3 (dk_at dksX4_setBody_0 20 rfl rfl)
theorem dX4_setBody_21 : decode cX4_setBody 21 = .ok (.putfield 101, 3) := dk_181 0 101 (dk_at dksX4_setBody_0 21 rfl rfl)
theorem dX4_setBody_24 : decode cX4_setBody 24 = .ok (.aload_n 0, 1) := dk_42 (dk_at dksX4_setBody_1 0 rfl rfl)
theorem dX4_setBody_25 : decode cX4_setBody 25 = .ok (.iload_n 2, 1) := dk_28 (dk_at dksX4_setBody_1 1 rfl rfl)
theorem dX4_setBody_26 : decode cX4_setBody 26 = .ok (.ifCond .eq 7, 3) := dk_153 0 7 (dk_at dksX4_setBody_1 2 rfl rfl)
theorem dX4_setBody_29 : decode cX4_setBody 29 = .ok (.iconst (-1), 1) := dk_2 (dk_at dksX4_setBody_1 5 rfl rfl)
theorem dX4_setBody_30 : decode cX4_setBody 30 = .ok (.goto 7, 3) := dk_167 0 7 (dk_at dksX4_setBody_1 6 rfl rfl)
theorem dX4_setBody_33 : decode cX4_setBody 33 = .ok (.aload_n 0, 1) := dk_42 (dk_at dksX4_setBody_1 9 rfl rfl)
theorem dX4_setBody_34 : decode cX4_setBody 34 = .ok (.getfield 104, 3) := dk_180 0 104 (dk_at dksX4_setBody_1 10 rfl rfl)
theorem dX4_setBody_37 : decode cX4_setBody 37 = .ok (.putfield 28, 3) := dk_181 0 28 (dk_at dksX4_setBody_1 13 rfl rfl)
theorem dX4_setBody_40 : decode cX4_setBody 40 = .ok (.iload_n 2, 1) := dk_28 (dk_at dksX4_setBody_1 16 rfl rfl)
theorem dX4_setBody_41 : decode cX4_setBody 41 = .ok (.ifCond .ne 9, 3) := dk_154 0 9 (dk_at dksX4_setBody_1 17 rfl rfl)
theorem dX4_setBody_44 : decode cX4_setBody 44 = .ok (.aload_n 0, 1) := dk_42 (dk_at dksX4_setBody_1 20 rfl rfl)
theorem dX4_setBody_45 : decode cX4_setBody 45 = .ok (.iconst 2, 1) := dk_5 (dk_at dksX4_setBody_1 21 rfl rfl)
theorem dX4_setBody_46 : decode cX4_setBody 46 = .ok (.invokevirtual 98, 3) := dk_182 0 98 (dk_at dksX4_setBody_2 0 rfl rfl)
theorem dX4_setBody_49 : decode cX4_setBody 49 = .ok (.ireturn, 1) := dk_172 (dk_at dksX4_setBody_2 3 rfl rfl)
theorem dX4_setBody_50 : decode cX4_setBody 50 = .ok (.aload_n 0, 1) := dk_42 (dk_at dksX4_setBody_2 4 rfl rfl)
theorem dX4_setBody_51 : decode cX4_setBody 51 = .ok (.getfield 22, 3) := dk_180 0 22 (dk_at dksX4_setBody_2 5 rfl rfl)
theorem dX4_setBody_54 : decode cX4_setBody 54 = .ok (.iconst 4, 1) := dk_7 (dk_at dksX4_setBody_2 8 rfl rfl)
theorem dX4_setBody_55 : decode cX4_setBody 55 = .ok (.iaload, 1) := dk_46 (dk_at dksX4_setBody_2 9 rfl rfl)
theorem dX4_setBody_56 : decode cX4_setBody 56 = .ok (.bipush 12, 2) := dk_16 12 (dk_at dksX4_setBody_2 10 rfl rfl)
theorem dX4_setBody_58 : decode cX4_setBody 58 = .ok (.if_icmp .gt 35, 3) := dk_163 0 35 (dk_at dksX4_setBody_2 12 rfl rfl)
theorem dX4_setBody_61 : decode cX4_setBody 61 = .ok (.aload_n 0, 1) := dk_42 (dk_at dksX4_setBody_2 15 rfl rfl)
theorem dX4_setBody_62 : decode cX4_setBody 62 = .ok (.getfield 111, 3) := dk_180 0 111 (dk_at dksX4_setBody_2 16 rfl rfl)
theorem dX4_setBody_65 : decode cX4_setBody 65 = .ok (.aload_n 0, 1) := dk_42 (dk_at dksX4_setBody_2 19 rfl rfl)
theorem dX4_setBody_66 : decode cX4_setBody 66 = .ok (.iconst 4, 1) := dk_7 (dk_at dksX4_setBody_2 20 rfl rfl)
theorem dX4_setBody_67 : decode cX4_setBody 67 = .ok (.iload_n 1, 1) := dk_27 (dk_at dksX4_setBody_2 21 rfl rfl)
theorem dX4_setBody_68 : decode cX4_setBody 68 = .ok (.invokevirtual 147, 3) := dk_182 0 147 (dk_at dksX4_setBody_3 0 rfl rfl)
theorem dX4_setBody_71 : decode cX4_setBody 71 = .ok (.iadd, 1) := dk_96 (dk_at dksX4_setBody_3 3 rfl rfl)
theorem dX4_setBody_72 : decode cX4_setBody 72 = .ok (.bipush 8, 2) := dk_16 8 (dk_at dksX4_setBody_3 4 rfl rfl)
theorem dX4_setBody_74 : decode cX4_setBody 74 = .ok (.if_icmp .gt 19, 3) := dk_163 0 19 (dk_at dksX4_setBody_3 6 rfl rfl)
theorem dX4_setBody_77 : decode cX4_setBody 77 = .ok (.aload_n 0, 1) := dk_42 (dk_at dksX4_setBody_3 9 rfl rfl)
theorem dX4_setBody_78 : decode cX4_setBody 78 = .ok (.getfield 114, 3) := dk_180 0 114 (dk_at dksX4_setBody_3 10 rfl rfl)
theorem dX4_setBody_81 : decode cX4_setBody 81 = .ok (.aload_n 0, 1) := dk_42 (dk_at dksX4_setBody_3 13 rfl rfl)
theorem dX4_setBody_82 : decode cX4_setBody 82 = .ok (.bipush 6, 2) := dk_16 6 (dk_at dksX4_setBody_3 14 rfl rfl)
theorem dX4_setBody_84 : decode cX4_setBody 84 = .ok (.iload_n 1, 1) := dk_27 (dk_at dksX4_setBody_3 16 rfl rfl)
theorem dX4_setBody_85 : decode cX4_setBody 85 = .ok (.invokevirtual 147, 3) := dk_182 0 147 (dk_at dksX4_setBody_3 17 rfl rfl)
theorem dX4_setBody_88 : decode cX4_setBody 88 = .ok (.iadd, 1) := dk_96 (dk_at dksX4_setBody_3 20 rfl rfl)
theorem dX4_setBody_89 : decode cX4_setBody 89 = .ok (.iconst 5, 1) := dk_8 (dk_at dksX4_setBody_3 21 rfl rfl)
theorem dX4_setBody_90 : decode cX4_setBody 90 = .ok (.if_icmp .le 9, 3) := dk_164 0 9 (dk_at dksX4_setBody_4 0 rfl rfl)
theorem dX4_setBody_93 : decode cX4_setBody 93 = .ok (.aload_n 0, 1) := dk_42 (dk_at dksX4_setBody_4 3 rfl rfl)
theorem dX4_setBody_94 : decode cX4_setBody 94 = .ok (.iconst 3, 1) := dk_6 (dk_at dksX4_setBody_4 4 rfl rfl)
theorem dX4_setBody_95 : decode cX4_setBody 95 = .ok (.invokevirtual 98, 3) := dk_182 0 98 (dk_at dksX4_setBody_4 5 rfl rfl)
theorem dX4_setBody_98 : decode cX4_setBody 98 = .ok (.ireturn, 1) := dk_172 (dk_at dksX4_setBody_4 8 rfl rfl)
theorem dX4_setBody_99 : decode cX4_setBody 99 = .ok (.aload_n 0, 1) := dk_42 (dk_at dksX4_setBody_4 9 rfl rfl)
theorem dX4_setBody_100 : decode cX4_setBody 100 = .ok (.iconst 0, 1) := dk_3 (dk_at dksX4_setBody_4 10 rfl rfl)
theorem dX4_setBody_101 : decode cX4_setBody 101 = .ok (.putfield 84, 3) := dk_181 0 84 (dk_at dksX4_setBody_4 11 rfl rfl)
theorem dX4_setBody_104 : decode cX4_setBody 104 = .ok (.aload_n 0, 1) := dk_42 (dk_at dksX4_setBody_4 14 rfl rfl)
theorem dX4_setBody_105 : decode cX4_setBody 105 = .ok (.iconst 4, 1) := dk_7 (dk_at dksX4_setBody_4 15 rfl rfl)
theorem dX4_setBody_106 : decode cX4_setBody 106 = .ok (.iload_n 1, 1) := dk_27 (dk_at dksX4_setBody_4 16 rfl rfl)
theorem dX4_setBody_107 : decode cX4_setBody 107 = .ok (.invokevirtual 151, 3) := dk_182 0 151 (dk_at dksX4_setBody_4 17 rfl rfl)
theorem dX4_setBody_110 : decode cX4_setBody 110 = .ok (.aload_n 0, 1) := dk_42 (dk_at dksX4_setBody_4 20 rfl rfl)
theorem dX4_setBody_111 : decode cX4_setBody 111 = .ok (.iconst 0, 1) := dk_3 (dk_at dksX4_setBody_4 21 rfl rfl)
theorem dX4_setBody_112 : decode cX4_setBody 112 = .ok (.putfield 155, 3) := dk_181 0 155 (dk_at dksX4_setBody_5 0 rfl rfl)
theorem dX4_setBody_115 : decode cX4_setBody 115 = .ok (.aload_n 0, 1) := dk_42 (dk_at dksX4_setBody_5 3 rfl rfl)
theorem dX4_setBody_116 : decode cX4_setBody 116 = .ok (.invokevirtual 159, 3) := dk_182 0 159 (dk_at dksX4_setBody_5 4 rfl rfl)
theorem dX4_setBody_119 : decode cX4_setBody 119 = .ok (.aload_n 0, 1) := dk_42 (dk_at dksX4_setBody_5 7 rfl rfl)
theorem dX4_setBody_120 : decode cX4_setBody 120 = .ok (.getfield 22, 3) := dk_180 0 22 (dk_at dksX4_setBody_5 8 rfl rfl)
theorem dX4_setBody_123 : decode cX4_setBody 123 = .ok (.iload_n 1, 1) := dk_27 (dk_at dksX4_setBody_5 11 rfl rfl)
theorem dX4_setBody_124 : decode cX4_setBody 124 = .ok (.iaload, 1) := dk_46 (dk_at dksX4_setBody_5 12 rfl rfl)
theorem dX4_setBody_125 : decode cX4_setBody 125 = .ok (.ireturn, 1) := dk_172 (dk_at dksX4_setBody_5 13 rfl rfl)
abbrev cX4_isFunction : ByteArray := prog_21_method_7_code
def yX4_isFunction : MethodName := ⟨RX4, "isFunction", "(I)Z"⟩
def dkwX4_isFunction_0 : List UInt8 := [26, 155, 0, 12, 26, 7, 162, 0, 7, 4, 167, 0, 4, 3, 172]
abbrev dktX4_isFunction_0 : List UInt8 := dkwX4_isFunction_0 ++ []
theorem dksX4_isFunction_0 : cX4_isFunction.data.toList.drop 0 = dktX4_isFunction_0 := by decide +kernel
theorem dX4_isFunction_0 : decode cX4_isFunction 0 = .ok (.iload_n 0, 1) := dk_26 (dk_at dksX4_isFunction_0 0 rfl rfl)
theorem dX4_isFunction_1 : decode cX4_isFunction 1 = .ok (.ifCond .lt 12, 3) := dk_155 0 12 (dk_at dksX4_isFunction_0 1 rfl rfl)
theorem dX4_isFunction_4 : decode cX4_isFunction 4 = .ok (.iload_n 0, 1) := dk_26 (dk_at dksX4_isFunction_0 4 rfl rfl)
theorem dX4_isFunction_5 : decode cX4_isFunction 5 = .ok (.iconst 4, 1) := dk_7 (dk_at dksX4_isFunction_0 5 rfl rfl)
theorem dX4_isFunction_6 : decode cX4_isFunction 6 = .ok (.if_icmp .ge 7, 3) := dk_162 0 7 (dk_at dksX4_isFunction_0 6 rfl rfl)
theorem dX4_isFunction_9 : decode cX4_isFunction 9 = .ok (.iconst 1, 1) := dk_4 (dk_at dksX4_isFunction_0 9 rfl rfl)
theorem dX4_isFunction_10 : decode cX4_isFunction 10 = .ok (.goto 4, 3) := dk_167 0 4 (dk_at dksX4_isFunction_0 10 rfl rfl)
theorem dX4_isFunction_13 : decode cX4_isFunction 13 = .ok (.iconst 0, 1) := dk_3 (dk_at dksX4_isFunction_0 13 rfl rfl)
theorem dX4_isFunction_14 : decode cX4_isFunction 14 = .ok (.ireturn, 1) := dk_172 (dk_at dksX4_isFunction_0 14 rfl rfl)
abbrev cX4_takesText : ByteArray := prog_21_method_23_code
def yX4_takesText : MethodName := ⟨RX4, "takesText", "(I)Z"⟩
def dkwX4_takesText_3 : List UInt8 := [167, 0, 4, 3, 172]
abbrev dktX4_takesText_3 : List UInt8 := dkwX4_takesText_3 ++ []
def dkwX4_takesText_2 : List UInt8 := [42, 16, 59, 182, 0, 120, 61, 167, 255, 235, 42, 180, 0, 104, 42, 180, 0, 101, 160, 0, 7, 4]
abbrev dktX4_takesText_2 : List UInt8 := dkwX4_takesText_2 ++ dktX4_takesText_3
def dkwX4_takesText_1 : List UInt8 := [180, 0, 101, 154, 0, 5, 4, 172, 4, 61, 28, 153, 0, 23, 42, 27, 182, 0, 138, 154, 0, 5, 3, 172]
abbrev dktX4_takesText_1 : List UInt8 := dkwX4_takesText_1 ++ dktX4_takesText_2
def dkwX4_takesText_0 : List UInt8 := [42, 3, 181, 0, 104, 42, 180, 0, 22, 7, 3, 79, 42, 3, 181, 0, 111, 42, 3, 181, 0, 114, 42]
abbrev dktX4_takesText_0 : List UInt8 := dkwX4_takesText_0 ++ dktX4_takesText_1
theorem dksX4_takesText_0 : cX4_takesText.data.toList.drop 0 = dktX4_takesText_0 := by decide +kernel
theorem dksX4_takesText_1 : cX4_takesText.data.toList.drop 23 = dktX4_takesText_1 := dk_seg dksX4_takesText_0 23 rfl rfl
theorem dksX4_takesText_2 : cX4_takesText.data.toList.drop 47 = dktX4_takesText_2 := dk_seg dksX4_takesText_1 24 rfl rfl
theorem dksX4_takesText_3 : cX4_takesText.data.toList.drop 69 = dktX4_takesText_3 := dk_seg dksX4_takesText_2 22 rfl rfl
theorem dX4_takesText_0 : decode cX4_takesText 0 = .ok (.aload_n 0, 1) := dk_42 (dk_at dksX4_takesText_0 0 rfl rfl)
theorem dX4_takesText_1 : decode cX4_takesText 1 = .ok (.iconst 0, 1) := dk_3 (dk_at dksX4_takesText_0 1 rfl rfl)
theorem dX4_takesText_2 : decode cX4_takesText 2 = .ok (.putfield 104, 3) := dk_181 0 104 (dk_at dksX4_takesText_0 2 rfl rfl)
theorem dX4_takesText_5 : decode cX4_takesText 5 = .ok (.aload_n 0, 1) := dk_42 (dk_at dksX4_takesText_0 5 rfl rfl)
theorem dX4_takesText_6 : decode cX4_takesText 6 = .ok (.getfield 22, 3) := dk_180 0 22 (dk_at dksX4_takesText_0 6 rfl rfl)
theorem dX4_takesText_9 : decode cX4_takesText 9 = .ok (.iconst 4, 1) := dk_7 (dk_at dksX4_takesText_0 9 rfl rfl)
theorem dX4_takesText_10 : decode cX4_takesText 10 = .ok (.iconst 0, 1) := dk_3 (dk_at dksX4_takesText_0 10 rfl rfl)
theorem dX4_takesText_11 : decode cX4_takesText 11 = .ok (.iastore, 1) := dk_79 (dk_at dksX4_takesText_0 11 rfl rfl)
theorem dX4_takesText_12 : decode cX4_takesText 12 = .ok (.aload_n 0, 1) := dk_42 (dk_at dksX4_takesText_0 12 rfl rfl)
theorem dX4_takesText_13 : decode cX4_takesText 13 = .ok (.iconst 0, 1) := dk_3 (dk_at dksX4_takesText_0 13 rfl rfl)
theorem dX4_takesText_14 : decode cX4_takesText 14 = .ok (.putfield 111, 3) := dk_181 0 111 (dk_at dksX4_takesText_0 14 rfl rfl)
theorem dX4_takesText_17 : decode cX4_takesText 17 = .ok (.aload_n 0, 1) := dk_42 (dk_at dksX4_takesText_0 17 rfl rfl)
theorem dX4_takesText_18 : decode cX4_takesText 18 = .ok (.iconst 0, 1) := dk_3 (dk_at dksX4_takesText_0 18 rfl rfl)
theorem dX4_takesText_19 : decode cX4_takesText 19 = .ok (.putfield 114, 3) := dk_181 0 114 (dk_at dksX4_takesText_0 19 rfl rfl)
theorem dX4_takesText_22 : decode cX4_takesText 22 = .ok (.aload_n 0, 1) := dk_42 (dk_at dksX4_takesText_0 22 rfl rfl)
theorem dX4_takesText_23 : decode cX4_takesText 23 = .ok (.getfield 101, 3) := dk_180 0 101 (dk_at dksX4_takesText_1 0 rfl rfl)
theorem dX4_takesText_26 : decode cX4_takesText 26 = .ok (.ifCond .ne 5, 3) := dk_154 0 5 (dk_at dksX4_takesText_1 3 rfl rfl)
theorem dX4_takesText_29 : decode cX4_takesText 29 = .ok (.iconst 1, 1) := dk_4 (dk_at dksX4_takesText_1 6 rfl rfl)
theorem dX4_takesText_30 : decode cX4_takesText 30 = .ok (.ireturn, 1) := dk_172 (dk_at dksX4_takesText_1 7 rfl rfl)
theorem dX4_takesText_31 : decode cX4_takesText 31 = .ok (.iconst 1, 1) := dk_4 (dk_at dksX4_takesText_1 8 rfl rfl)
theorem dX4_takesText_32 : decode cX4_takesText 32 = .ok (.istore_n 2, 1) := dk_61 (dk_at dksX4_takesText_1 9 rfl rfl)
theorem dX4_takesText_33 : decode cX4_takesText 33 = .ok (.iload_n 2, 1) := dk_28 (dk_at dksX4_takesText_1 10 rfl rfl)
theorem dX4_takesText_34 : decode cX4_takesText 34 = .ok (.ifCond .eq 23, 3) := dk_153 0 23 (dk_at dksX4_takesText_1 11 rfl rfl)
theorem dX4_takesText_37 : decode cX4_takesText 37 = .ok (.aload_n 0, 1) := dk_42 (dk_at dksX4_takesText_1 14 rfl rfl)
theorem dX4_takesText_38 : decode cX4_takesText 38 = .ok (.iload_n 1, 1) := dk_27 (dk_at dksX4_takesText_1 15 rfl rfl)
theorem dX4_takesText_39 : decode cX4_takesText 39 = .ok (.invokevirtual 138, 3) := dk_182 0 138 (dk_at dksX4_takesText_1 16 rfl rfl)
theorem dX4_takesText_42 : decode cX4_takesText 42 = .ok (.ifCond .ne 5, 3) := dk_154 0 5 (dk_at dksX4_takesText_1 19 rfl rfl)
theorem dX4_takesText_45 : decode cX4_takesText 45 = .ok (.iconst 0, 1) := dk_3 (dk_at dksX4_takesText_1 22 rfl rfl)
theorem dX4_takesText_46 : decode cX4_takesText 46 = .ok (.ireturn, 1) := dk_172 (dk_at dksX4_takesText_1 23 rfl rfl)
theorem dX4_takesText_47 : decode cX4_takesText 47 = .ok (.aload_n 0, 1) := dk_42 (dk_at dksX4_takesText_2 0 rfl rfl)
theorem dX4_takesText_48 : decode cX4_takesText 48 = .ok (.bipush 59, 2) := dk_16 59 (dk_at dksX4_takesText_2 1 rfl rfl)
theorem dX4_takesText_50 : decode cX4_takesText 50 = .ok (.invokevirtual 120, 3) := dk_182 0 120 (dk_at dksX4_takesText_2 3 rfl rfl)
theorem dX4_takesText_53 : decode cX4_takesText 53 = .ok (.istore_n 2, 1) := dk_61 (dk_at dksX4_takesText_2 6 rfl rfl)
theorem dX4_takesText_54 : decode cX4_takesText 54 = .ok (.goto (-21), 3) := dk_167 255 235 (dk_at dksX4_takesText_2 7 rfl rfl)
theorem dX4_takesText_57 : decode cX4_takesText 57 = .ok (.aload_n 0, 1) := dk_42 (dk_at dksX4_takesText_2 10 rfl rfl)
theorem dX4_takesText_58 : decode cX4_takesText 58 = .ok (.getfield 104, 3) := dk_180 0 104 (dk_at dksX4_takesText_2 11 rfl rfl)
theorem dX4_takesText_61 : decode cX4_takesText 61 = .ok (.aload_n 0, 1) := dk_42 (dk_at dksX4_takesText_2 14 rfl rfl)
theorem dX4_takesText_62 : decode cX4_takesText 62 = .ok (.getfield 101, 3) := dk_180 0 101 (dk_at dksX4_takesText_2 15 rfl rfl)
theorem dX4_takesText_65 : decode cX4_takesText 65 = .ok (.if_icmp .ne 7, 3) := dk_160 0 7 (dk_at dksX4_takesText_2 18 rfl rfl)
theorem dX4_takesText_68 : decode cX4_takesText 68 = .ok (.iconst 1, 1) := dk_4 (dk_at dksX4_takesText_2 21 rfl rfl)
theorem dX4_takesText_69 : decode cX4_takesText 69 = .ok (.goto 4, 3) := dk_167 0 4 (dk_at dksX4_takesText_3 0 rfl rfl)
theorem dX4_takesText_72 : decode cX4_takesText 72 = .ok (.iconst 0, 1) := dk_3 (dk_at dksX4_takesText_3 3 rfl rfl)
theorem dX4_takesText_73 : decode cX4_takesText 73 = .ok (.ireturn, 1) := dk_172 (dk_at dksX4_takesText_3 4 rfl rfl)
abbrev cX4_takesStatement : ByteArray := prog_21_method_22_code
def yX4_takesStatement : MethodName := ⟨RX4, "takesStatement", "(I)Z"⟩
def dkwX4_takesStatement_7 : List UInt8 := [42, 29, 28, 21, 4, 21, 5, 182, 0, 124, 4, 172]
abbrev dktX4_takesStatement_7 : List UInt8 := dkwX4_takesStatement_7 ++ []
def dkwX4_takesStatement_6 : List UInt8 := [16, 43, 182, 0, 120, 153, 0, 19, 8, 62, 42, 5, 182, 0, 128, 54, 5, 21, 5, 156, 0, 5, 3, 172]
abbrev dktX4_takesStatement_6 : List UInt8 := dkwX4_takesStatement_6 ++ dktX4_takesStatement_7
def dkwX4_takesStatement_5 : List UInt8 := [62, 42, 27, 182, 0, 117, 54, 4, 21, 4, 156, 0, 5, 3, 172, 3, 54, 5, 29, 4, 160, 0, 28, 42]
abbrev dktX4_takesStatement_5 : List UInt8 := dkwX4_takesStatement_5 ++ dktX4_takesStatement_6
def dkwX4_takesStatement_4 : List UInt8 := [182, 0, 120, 153, 0, 7, 3, 167, 0, 17, 42, 16, 42, 182, 0, 120, 153, 0, 7, 5, 167, 0, 4, 4]
abbrev dktX4_takesStatement_4 : List UInt8 := dkwX4_takesStatement_4 ++ dktX4_takesStatement_5
def dkwX4_takesStatement_3 : List UInt8 := [182, 0, 124, 4, 172, 42, 16, 102, 182, 0, 120, 153, 0, 10, 42, 27, 28, 182, 0, 134, 172, 42, 16, 38]
abbrev dktX4_takesStatement_3 : List UInt8 := dkwX4_takesStatement_3 ++ dktX4_takesStatement_4
def dkwX4_takesStatement_2 : List UInt8 := [16, 101, 182, 0, 120, 153, 0, 12, 42, 16, 119, 182, 0, 120, 154, 0, 5, 3, 172, 42, 7, 28, 3, 3]
abbrev dktX4_takesStatement_2 : List UInt8 := dkwX4_takesStatement_2 ++ dktX4_takesStatement_3
def dkwX4_takesStatement_1 : List UInt8 := [155, 0, 12, 42, 16, 61, 182, 0, 120, 154, 0, 5, 3, 172, 42, 16, 110, 182, 0, 120, 153, 0, 33, 42]
abbrev dktX4_takesStatement_1 : List UInt8 := dkwX4_takesStatement_1 ++ dktX4_takesStatement_2
def dkwX4_takesStatement_0 : List UInt8 := [42, 16, 42, 182, 0, 120, 153, 0, 9, 42, 27, 182, 0, 131, 172, 42, 27, 182, 0, 117, 61, 28]
abbrev dktX4_takesStatement_0 : List UInt8 := dkwX4_takesStatement_0 ++ dktX4_takesStatement_1
theorem dksX4_takesStatement_0 : cX4_takesStatement.data.toList.drop 0 = dktX4_takesStatement_0 := by decide +kernel
theorem dksX4_takesStatement_1 : cX4_takesStatement.data.toList.drop 22 = dktX4_takesStatement_1 := dk_seg dksX4_takesStatement_0 22 rfl rfl
theorem dksX4_takesStatement_2 : cX4_takesStatement.data.toList.drop 46 = dktX4_takesStatement_2 := dk_seg dksX4_takesStatement_1 24 rfl rfl
theorem dksX4_takesStatement_3 : cX4_takesStatement.data.toList.drop 70 = dktX4_takesStatement_3 := dk_seg dksX4_takesStatement_2 24 rfl rfl
theorem dksX4_takesStatement_4 : cX4_takesStatement.data.toList.drop 94 = dktX4_takesStatement_4 := dk_seg dksX4_takesStatement_3 24 rfl rfl
theorem dksX4_takesStatement_5 : cX4_takesStatement.data.toList.drop 118 = dktX4_takesStatement_5 := dk_seg dksX4_takesStatement_4 24 rfl rfl
theorem dksX4_takesStatement_6 : cX4_takesStatement.data.toList.drop 142 = dktX4_takesStatement_6 := dk_seg dksX4_takesStatement_5 24 rfl rfl
theorem dksX4_takesStatement_7 : cX4_takesStatement.data.toList.drop 166 = dktX4_takesStatement_7 := dk_seg dksX4_takesStatement_6 24 rfl rfl
theorem dX4_takesStatement_0 : decode cX4_takesStatement 0 = .ok (.aload_n 0, 1) := dk_42 (dk_at dksX4_takesStatement_0 0 rfl rfl)
theorem dX4_takesStatement_1 : decode cX4_takesStatement 1 = .ok (.bipush 42, 2) := dk_16 42 (dk_at dksX4_takesStatement_0 1 rfl rfl)
theorem dX4_takesStatement_3 : decode cX4_takesStatement 3 = .ok (.invokevirtual 120, 3) := dk_182 0 120 (dk_at dksX4_takesStatement_0 3 rfl rfl)
theorem dX4_takesStatement_6 : decode cX4_takesStatement 6 = .ok (.ifCond .eq 9, 3) := dk_153 0 9 (dk_at dksX4_takesStatement_0 6 rfl rfl)
theorem dX4_takesStatement_9 : decode cX4_takesStatement 9 = .ok (.aload_n 0, 1) := dk_42 (dk_at dksX4_takesStatement_0 9 rfl rfl)
theorem dX4_takesStatement_10 : decode cX4_takesStatement 10 = .ok (.iload_n 1, 1) := dk_27 (dk_at dksX4_takesStatement_0 10 rfl rfl)
theorem dX4_takesStatement_11 : decode cX4_takesStatement 11 = .ok (.invokevirtual 131, 3) := dk_182 0 131 (dk_at dksX4_takesStatement_0 11 rfl rfl)
theorem dX4_takesStatement_14 : decode cX4_takesStatement 14 = .ok (.ireturn, 1) := dk_172 (dk_at dksX4_takesStatement_0 14 rfl rfl)
theorem dX4_takesStatement_15 : decode cX4_takesStatement 15 = .ok (.aload_n 0, 1) := dk_42 (dk_at dksX4_takesStatement_0 15 rfl rfl)
theorem dX4_takesStatement_16 : decode cX4_takesStatement 16 = .ok (.iload_n 1, 1) := dk_27 (dk_at dksX4_takesStatement_0 16 rfl rfl)
theorem dX4_takesStatement_17 : decode cX4_takesStatement 17 = .ok (.invokevirtual 117, 3) := dk_182 0 117 (dk_at dksX4_takesStatement_0 17 rfl rfl)
theorem dX4_takesStatement_20 : decode cX4_takesStatement 20 = .ok (.istore_n 2, 1) := dk_61 (dk_at dksX4_takesStatement_0 20 rfl rfl)
theorem dX4_takesStatement_21 : decode cX4_takesStatement 21 = .ok (.iload_n 2, 1) := dk_28 (dk_at dksX4_takesStatement_0 21 rfl rfl)
theorem dX4_takesStatement_22 : decode cX4_takesStatement 22 = .ok (.ifCond .lt 12, 3) := dk_155 0 12 (dk_at dksX4_takesStatement_1 0 rfl rfl)
theorem dX4_takesStatement_25 : decode cX4_takesStatement 25 = .ok (.aload_n 0, 1) := dk_42 (dk_at dksX4_takesStatement_1 3 rfl rfl)
theorem dX4_takesStatement_26 : decode cX4_takesStatement 26 = .ok (.bipush 61, 2) := dk_16 61 (dk_at dksX4_takesStatement_1 4 rfl rfl)
theorem dX4_takesStatement_28 : decode cX4_takesStatement 28 = .ok (.invokevirtual 120, 3) := dk_182 0 120 (dk_at dksX4_takesStatement_1 6 rfl rfl)
theorem dX4_takesStatement_31 : decode cX4_takesStatement 31 = .ok (.ifCond .ne 5, 3) := dk_154 0 5 (dk_at dksX4_takesStatement_1 9 rfl rfl)
theorem dX4_takesStatement_34 : decode cX4_takesStatement 34 = .ok (.iconst 0, 1) := dk_3 (dk_at dksX4_takesStatement_1 12 rfl rfl)
theorem dX4_takesStatement_35 : decode cX4_takesStatement 35 = .ok (.ireturn, 1) := dk_172 (dk_at dksX4_takesStatement_1 13 rfl rfl)
theorem dX4_takesStatement_36 : decode cX4_takesStatement 36 = .ok (.aload_n 0, 1) := dk_42 (dk_at dksX4_takesStatement_1 14 rfl rfl)
theorem dX4_takesStatement_37 : decode cX4_takesStatement 37 = .ok (.bipush 110, 2) := dk_16 110 (dk_at dksX4_takesStatement_1 15 rfl rfl)
theorem dX4_takesStatement_39 : decode cX4_takesStatement 39 = .ok (.invokevirtual 120, 3) := dk_182 0 120 (dk_at dksX4_takesStatement_1 17 rfl rfl)
theorem dX4_takesStatement_42 : decode cX4_takesStatement 42 = .ok (.ifCond .eq 33, 3) := dk_153 0 33 (dk_at dksX4_takesStatement_1 20 rfl rfl)
theorem dX4_takesStatement_45 : decode cX4_takesStatement 45 = .ok (.aload_n 0, 1) := dk_42 (dk_at dksX4_takesStatement_1 23 rfl rfl)
theorem dX4_takesStatement_46 : decode cX4_takesStatement 46 = .ok (.bipush 101, 2) := dk_16 101 (dk_at dksX4_takesStatement_2 0 rfl rfl)
theorem dX4_takesStatement_48 : decode cX4_takesStatement 48 = .ok (.invokevirtual 120, 3) := dk_182 0 120 (dk_at dksX4_takesStatement_2 2 rfl rfl)
theorem dX4_takesStatement_51 : decode cX4_takesStatement 51 = .ok (.ifCond .eq 12, 3) := dk_153 0 12 (dk_at dksX4_takesStatement_2 5 rfl rfl)
theorem dX4_takesStatement_54 : decode cX4_takesStatement 54 = .ok (.aload_n 0, 1) := dk_42 (dk_at dksX4_takesStatement_2 8 rfl rfl)
theorem dX4_takesStatement_55 : decode cX4_takesStatement 55 = .ok (.bipush 119, 2) := dk_16 119 (dk_at dksX4_takesStatement_2 9 rfl rfl)
theorem dX4_takesStatement_57 : decode cX4_takesStatement 57 = .ok (.invokevirtual 120, 3) := dk_182 0 120 (dk_at dksX4_takesStatement_2 11 rfl rfl)
theorem dX4_takesStatement_60 : decode cX4_takesStatement 60 = .ok (.ifCond .ne 5, 3) := dk_154 0 5 (dk_at dksX4_takesStatement_2 14 rfl rfl)
theorem dX4_takesStatement_63 : decode cX4_takesStatement 63 = .ok (.iconst 0, 1) := dk_3 (dk_at dksX4_takesStatement_2 17 rfl rfl)
theorem dX4_takesStatement_64 : decode cX4_takesStatement 64 = .ok (.ireturn, 1) := dk_172 (dk_at dksX4_takesStatement_2 18 rfl rfl)
theorem dX4_takesStatement_65 : decode cX4_takesStatement 65 = .ok (.aload_n 0, 1) := dk_42 (dk_at dksX4_takesStatement_2 19 rfl rfl)
theorem dX4_takesStatement_66 : decode cX4_takesStatement 66 = .ok (.iconst 4, 1) := dk_7 (dk_at dksX4_takesStatement_2 20 rfl rfl)
theorem dX4_takesStatement_67 : decode cX4_takesStatement 67 = .ok (.iload_n 2, 1) := dk_28 (dk_at dksX4_takesStatement_2 21 rfl rfl)
theorem dX4_takesStatement_68 : decode cX4_takesStatement 68 = .ok (.iconst 0, 1) := dk_3 (dk_at dksX4_takesStatement_2 22 rfl rfl)
theorem dX4_takesStatement_69 : decode cX4_takesStatement 69 = .ok (.iconst 0, 1) := dk_3 (dk_at dksX4_takesStatement_2 23 rfl rfl)
theorem dX4_takesStatement_70 : decode cX4_takesStatement 70 = .ok (.invokevirtual 124, 3) := dk_182 0 124 (dk_at dksX4_takesStatement_3 0 rfl rfl)
theorem dX4_takesStatement_73 : decode cX4_takesStatement 73 = .ok (.iconst 1, 1) := dk_4 (dk_at dksX4_takesStatement_3 3 rfl rfl)
theorem dX4_takesStatement_74 : decode cX4_takesStatement 74 = .ok (.ireturn, 1) := dk_172 (dk_at dksX4_takesStatement_3 4 rfl rfl)
theorem dX4_takesStatement_75 : decode cX4_takesStatement 75 = .ok (.aload_n 0, 1) := dk_42 (dk_at dksX4_takesStatement_3 5 rfl rfl)
theorem dX4_takesStatement_76 : decode cX4_takesStatement 76 = .ok (.bipush 102, 2) := dk_16 102 (dk_at dksX4_takesStatement_3 6 rfl rfl)
theorem dX4_takesStatement_78 : decode cX4_takesStatement 78 = .ok (.invokevirtual 120, 3) := dk_182 0 120 (dk_at dksX4_takesStatement_3 8 rfl rfl)
theorem dX4_takesStatement_81 : decode cX4_takesStatement 81 = .ok (.ifCond .eq 10, 3) := dk_153 0 10 (dk_at dksX4_takesStatement_3 11 rfl rfl)
theorem dX4_takesStatement_84 : decode cX4_takesStatement 84 = .ok (.aload_n 0, 1) := dk_42 (dk_at dksX4_takesStatement_3 14 rfl rfl)
theorem dX4_takesStatement_85 : decode cX4_takesStatement 85 = .ok (.iload_n 1, 1) := dk_27 (dk_at dksX4_takesStatement_3 15 rfl rfl)
theorem dX4_takesStatement_86 : decode cX4_takesStatement 86 = .ok (.iload_n 2, 1) := dk_28 (dk_at dksX4_takesStatement_3 16 rfl rfl)
theorem dX4_takesStatement_87 : decode cX4_takesStatement 87 = .ok (.invokevirtual 134, 3) := dk_182 0 134 (dk_at dksX4_takesStatement_3 17 rfl rfl)
theorem dX4_takesStatement_90 : decode cX4_takesStatement 90 = .ok (.ireturn, 1) := dk_172 (dk_at dksX4_takesStatement_3 20 rfl rfl)
theorem dX4_takesStatement_91 : decode cX4_takesStatement 91 = .ok (.aload_n 0, 1) := dk_42 (dk_at dksX4_takesStatement_3 21 rfl rfl)
theorem dX4_takesStatement_92 : decode cX4_takesStatement 92 = .ok (.bipush 38, 2) := dk_16 38 (dk_at dksX4_takesStatement_3 22 rfl rfl)
theorem dX4_takesStatement_94 : decode cX4_takesStatement 94 = .ok (.invokevirtual 120, 3) := dk_182 0 120 (dk_at dksX4_takesStatement_4 0 rfl rfl)
theorem dX4_takesStatement_97 : decode cX4_takesStatement 97 = .ok (.ifCond .eq 7, 3) := dk_153 0 7 (dk_at dksX4_takesStatement_4 3 rfl rfl)
theorem dX4_takesStatement_100 : decode cX4_takesStatement 100 = .ok (.iconst 0, 1) := dk_3 (dk_at dksX4_takesStatement_4 6 rfl rfl)
theorem dX4_takesStatement_101 : decode cX4_takesStatement 101 = .ok (.goto 17, 3) := dk_167 0 17 (dk_at dksX4_takesStatement_4 7 rfl rfl)
theorem dX4_takesStatement_104 : decode cX4_takesStatement 104 = .ok (.aload_n 0, 1) := dk_42 (dk_at dksX4_takesStatement_4 10 rfl rfl)
theorem dX4_takesStatement_105 : decode cX4_takesStatement 105 = .ok (.bipush 42, 2) := dk_16 42 (dk_at dksX4_takesStatement_4 11 rfl rfl)
theorem dX4_takesStatement_107 : decode cX4_takesStatement 107 = .ok (.invokevirtual 120, 3) := dk_182 0 120 (dk_at dksX4_takesStatement_4 13 rfl rfl)
theorem dX4_takesStatement_110 : decode cX4_takesStatement 110 = .ok (.ifCond .eq 7, 3) := dk_153 0 7 (dk_at dksX4_takesStatement_4 16 rfl rfl)
theorem dX4_takesStatement_113 : decode cX4_takesStatement 113 = .ok (.iconst 2, 1) := dk_5 (dk_at dksX4_takesStatement_4 19 rfl rfl)
theorem dX4_takesStatement_114 : decode cX4_takesStatement 114 = .ok (.goto 4, 3) := dk_167 0 4 (dk_at dksX4_takesStatement_4 20 rfl rfl)
theorem dX4_takesStatement_117 : decode cX4_takesStatement 117 = .ok (.iconst 1, 1) := dk_4 (dk_at dksX4_takesStatement_4 23 rfl rfl)
theorem dX4_takesStatement_118 : decode cX4_takesStatement 118 = .ok (.istore_n 3, 1) := dk_62 (dk_at dksX4_takesStatement_5 0 rfl rfl)
theorem dX4_takesStatement_119 : decode cX4_takesStatement 119 = .ok (.aload_n 0, 1) := dk_42 (dk_at dksX4_takesStatement_5 1 rfl rfl)
theorem dX4_takesStatement_120 : decode cX4_takesStatement 120 = .ok (.iload_n 1, 1) := dk_27 (dk_at dksX4_takesStatement_5 2 rfl rfl)
theorem dX4_takesStatement_121 : decode cX4_takesStatement 121 = .ok (.invokevirtual 117, 3) := dk_182 0 117 (dk_at dksX4_takesStatement_5 3 rfl rfl)
theorem dX4_takesStatement_124 : decode cX4_takesStatement 124 = .ok (.istore 4, 2) := dk_54 4 (dk_at dksX4_takesStatement_5 6 rfl rfl)
theorem dX4_takesStatement_126 : decode cX4_takesStatement 126 = .ok (.iload 4, 2) := dk_21 4 (dk_at dksX4_takesStatement_5 8 rfl rfl)
theorem dX4_takesStatement_128 : decode cX4_takesStatement 128 = .ok (.ifCond .ge 5, 3) := dk_156 0 5 (dk_at dksX4_takesStatement_5 10 rfl rfl)
theorem dX4_takesStatement_131 : decode cX4_takesStatement 131 = .ok (.iconst 0, 1) := dk_3 (dk_at dksX4_takesStatement_5 13 rfl rfl)
theorem dX4_takesStatement_132 : decode cX4_takesStatement 132 = .ok (.ireturn, 1) := dk_172 (dk_at dksX4_takesStatement_5 14 rfl rfl)
theorem dX4_takesStatement_133 : decode cX4_takesStatement 133 = .ok (.iconst 0, 1) := dk_3 (dk_at dksX4_takesStatement_5 15 rfl rfl)
theorem dX4_takesStatement_134 : decode cX4_takesStatement 134 = .ok (.istore 5, 2) := dk_54 5 (dk_at dksX4_takesStatement_5 16 rfl rfl)
theorem dX4_takesStatement_136 : decode cX4_takesStatement 136 = .ok (.iload_n 3, 1) := dk_29 (dk_at dksX4_takesStatement_5 18 rfl rfl)
theorem dX4_takesStatement_137 : decode cX4_takesStatement 137 = .ok (.iconst 1, 1) := dk_4 (dk_at dksX4_takesStatement_5 19 rfl rfl)
theorem dX4_takesStatement_138 : decode cX4_takesStatement 138 = .ok (.if_icmp .ne 28, 3) := dk_160 0 28 (dk_at dksX4_takesStatement_5 20 rfl rfl)
theorem dX4_takesStatement_141 : decode cX4_takesStatement 141 = .ok (.aload_n 0, 1) := dk_42 (dk_at dksX4_takesStatement_5 23 rfl rfl)
theorem dX4_takesStatement_142 : decode cX4_takesStatement 142 = .ok (.bipush 43, 2) := dk_16 43 (dk_at dksX4_takesStatement_6 0 rfl rfl)
theorem dX4_takesStatement_144 : decode cX4_takesStatement 144 = .ok (.invokevirtual 120, 3) := dk_182 0 120 (dk_at dksX4_takesStatement_6 2 rfl rfl)
theorem dX4_takesStatement_147 : decode cX4_takesStatement 147 = .ok (.ifCond .eq 19, 3) := dk_153 0 19 (dk_at dksX4_takesStatement_6 5 rfl rfl)
theorem dX4_takesStatement_150 : decode cX4_takesStatement 150 = .ok (.iconst 5, 1) := dk_8 (dk_at dksX4_takesStatement_6 8 rfl rfl)
theorem dX4_takesStatement_151 : decode cX4_takesStatement 151 = .ok (.istore_n 3, 1) := dk_62 (dk_at dksX4_takesStatement_6 9 rfl rfl)
theorem dX4_takesStatement_152 : decode cX4_takesStatement 152 = .ok (.aload_n 0, 1) := dk_42 (dk_at dksX4_takesStatement_6 10 rfl rfl)
theorem dX4_takesStatement_153 : decode cX4_takesStatement 153 = .ok (.iconst 2, 1) := dk_5 (dk_at dksX4_takesStatement_6 11 rfl rfl)
theorem dX4_takesStatement_154 : decode cX4_takesStatement 154 = .ok (.invokevirtual 128, 3) := dk_182 0 128 (dk_at dksX4_takesStatement_6 12 rfl rfl)
theorem dX4_takesStatement_157 : decode cX4_takesStatement 157 = .ok (.istore 5, 2) := dk_54 5 (dk_at dksX4_takesStatement_6 15 rfl rfl)
theorem dX4_takesStatement_159 : decode cX4_takesStatement 159 = .ok (.iload 5, 2) := dk_21 5 (dk_at dksX4_takesStatement_6 17 rfl rfl)
theorem dX4_takesStatement_161 : decode cX4_takesStatement 161 = .ok (.ifCond .ge 5, 3) := dk_156 0 5 (dk_at dksX4_takesStatement_6 19 rfl rfl)
theorem dX4_takesStatement_164 : decode cX4_takesStatement 164 = .ok (.iconst 0, 1) := dk_3 (dk_at dksX4_takesStatement_6 22 rfl rfl)
theorem dX4_takesStatement_165 : decode cX4_takesStatement 165 = .ok (.ireturn, 1) := dk_172 (dk_at dksX4_takesStatement_6 23 rfl rfl)
theorem dX4_takesStatement_166 : decode cX4_takesStatement 166 = .ok (.aload_n 0, 1) := dk_42 (dk_at dksX4_takesStatement_7 0 rfl rfl)
theorem dX4_takesStatement_167 : decode cX4_takesStatement 167 = .ok (.iload_n 3, 1) := dk_29 (dk_at dksX4_takesStatement_7 1 rfl rfl)
theorem dX4_takesStatement_168 : decode cX4_takesStatement 168 = .ok (.iload_n 2, 1) := dk_28 (dk_at dksX4_takesStatement_7 2 rfl rfl)
theorem dX4_takesStatement_169 : decode cX4_takesStatement 169 = .ok (.iload 4, 2) := dk_21 4 (dk_at dksX4_takesStatement_7 3 rfl rfl)
theorem dX4_takesStatement_171 : decode cX4_takesStatement 171 = .ok (.iload 5, 2) := dk_21 5 (dk_at dksX4_takesStatement_7 5 rfl rfl)
theorem dX4_takesStatement_173 : decode cX4_takesStatement 173 = .ok (.invokevirtual 124, 3) := dk_182 0 124 (dk_at dksX4_takesStatement_7 7 rfl rfl)
theorem dX4_takesStatement_176 : decode cX4_takesStatement 176 = .ok (.iconst 1, 1) := dk_4 (dk_at dksX4_takesStatement_7 10 rfl rfl)
theorem dX4_takesStatement_177 : decode cX4_takesStatement 177 = .ok (.ireturn, 1) := dk_172 (dk_at dksX4_takesStatement_7 11 rfl rfl)
abbrev cX4_skips : ByteArray := prog_21_method_16_code
def yX4_skips : MethodName := ⟨RX4, "skips", "(I)Z"⟩
def dkwX4_skips_0 : List UInt8 := [42, 182, 0, 107, 27, 159, 0, 5, 3, 172, 42, 89, 180, 0, 104, 4, 96, 181, 0, 104, 4, 172]
abbrev dktX4_skips_0 : List UInt8 := dkwX4_skips_0 ++ []
theorem dksX4_skips_0 : cX4_skips.data.toList.drop 0 = dktX4_skips_0 := by decide +kernel
theorem dX4_skips_0 : decode cX4_skips 0 = .ok (.aload_n 0, 1) := dk_42 (dk_at dksX4_skips_0 0 rfl rfl)
theorem dX4_skips_1 : decode cX4_skips 1 = .ok (.invokevirtual 107, 3) := dk_182 0 107 (dk_at dksX4_skips_0 1 rfl rfl)
theorem dX4_skips_4 : decode cX4_skips 4 = .ok (.iload_n 1, 1) := dk_27 (dk_at dksX4_skips_0 4 rfl rfl)
theorem dX4_skips_5 : decode cX4_skips 5 = .ok (.if_icmp .eq 5, 3) := dk_159 0 5 (dk_at dksX4_skips_0 5 rfl rfl)
theorem dX4_skips_8 : decode cX4_skips 8 = .ok (.iconst 0, 1) := dk_3 (dk_at dksX4_skips_0 8 rfl rfl)
theorem dX4_skips_9 : decode cX4_skips 9 = .ok (.ireturn, 1) := dk_172 (dk_at dksX4_skips_0 9 rfl rfl)
theorem dX4_skips_10 : decode cX4_skips 10 = .ok (.aload_n 0, 1) := dk_42 (dk_at dksX4_skips_0 10 rfl rfl)
theorem dX4_skips_11 : decode cX4_skips 11 = .ok (.dup, 1) := dk_89 (dk_at dksX4_skips_0 11 rfl rfl)
theorem dX4_skips_12 : decode cX4_skips 12 = .ok (.getfield 104, 3) := dk_180 0 104 (dk_at dksX4_skips_0 12 rfl rfl)
theorem dX4_skips_15 : decode cX4_skips 15 = .ok (.iconst 1, 1) := dk_4 (dk_at dksX4_skips_0 15 rfl rfl)
theorem dX4_skips_16 : decode cX4_skips 16 = .ok (.iadd, 1) := dk_96 (dk_at dksX4_skips_0 16 rfl rfl)
theorem dX4_skips_17 : decode cX4_skips 17 = .ok (.putfield 104, 3) := dk_181 0 104 (dk_at dksX4_skips_0 17 rfl rfl)
theorem dX4_skips_20 : decode cX4_skips 20 = .ok (.iconst 1, 1) := dk_4 (dk_at dksX4_skips_0 20 rfl rfl)
theorem dX4_skips_21 : decode cX4_skips 21 = .ok (.ireturn, 1) := dk_172 (dk_at dksX4_skips_0 21 rfl rfl)
abbrev cX4_next : ByteArray := prog_21_method_15_code
def yX4_next : MethodName := ⟨RX4, "next", "()I"⟩
def dkwX4_next_1 : List UInt8 := [172]
abbrev dktX4_next_1 : List UInt8 := dkwX4_next_1 ++ []
def dkwX4_next_0 : List UInt8 := [42, 180, 0, 104, 42, 180, 0, 101, 162, 0, 15, 42, 180, 0, 25, 42, 180, 0, 104, 46, 167, 0, 4, 2]
abbrev dktX4_next_0 : List UInt8 := dkwX4_next_0 ++ dktX4_next_1
theorem dksX4_next_0 : cX4_next.data.toList.drop 0 = dktX4_next_0 := by decide +kernel
theorem dksX4_next_1 : cX4_next.data.toList.drop 24 = dktX4_next_1 := dk_seg dksX4_next_0 24 rfl rfl
theorem dX4_next_0 : decode cX4_next 0 = .ok (.aload_n 0, 1) := dk_42 (dk_at dksX4_next_0 0 rfl rfl)
theorem dX4_next_1 : decode cX4_next 1 = .ok (.getfield 104, 3) := dk_180 0 104 (dk_at dksX4_next_0 1 rfl rfl)
theorem dX4_next_4 : decode cX4_next 4 = .ok (.aload_n 0, 1) := dk_42 (dk_at dksX4_next_0 4 rfl rfl)
theorem dX4_next_5 : decode cX4_next 5 = .ok (.getfield 101, 3) := dk_180 0 101 (dk_at dksX4_next_0 5 rfl rfl)
theorem dX4_next_8 : decode cX4_next 8 = .ok (.if_icmp .ge 15, 3) := dk_162 0 15 (dk_at dksX4_next_0 8 rfl rfl)
theorem dX4_next_11 : decode cX4_next 11 = .ok (.aload_n 0, 1) := dk_42 (dk_at dksX4_next_0 11 rfl rfl)
theorem dX4_next_12 : decode cX4_next 12 = .ok (.getfield 25, 3) := dk_180 0 25 (dk_at dksX4_next_0 12 rfl rfl)
theorem dX4_next_15 : decode cX4_next 15 = .ok (.aload_n 0, 1) := dk_42 (dk_at dksX4_next_0 15 rfl rfl)
theorem dX4_next_16 : decode cX4_next 16 = .ok (.getfield 104, 3) := dk_180 0 104 (dk_at dksX4_next_0 16 rfl rfl)
theorem dX4_next_19 : decode cX4_next 19 = .ok (.iaload, 1) := dk_46 (dk_at dksX4_next_0 19 rfl rfl)
theorem dX4_next_20 : decode cX4_next 20 = .ok (.goto 4, 3) := dk_167 0 4 (dk_at dksX4_next_0 20 rfl rfl)
theorem dX4_next_23 : decode cX4_next 23 = .ok (.iconst (-1), 1) := dk_2 (dk_at dksX4_next_0 23 rfl rfl)
theorem dX4_next_24 : decode cX4_next 24 = .ok (.ireturn, 1) := dk_172 (dk_at dksX4_next_1 0 rfl rfl)
abbrev cX4_takesStore : ByteArray := prog_21_method_20_code
def yX4_takesStore : MethodName := ⟨RX4, "takesStore", "(I)Z"⟩
def dkwX4_takesStore_1 : List UInt8 := [182, 0, 117, 62, 29, 156, 0, 5, 3, 172, 42, 6, 28, 29, 3, 182, 0, 124, 4, 172]
abbrev dktX4_takesStore_1 : List UInt8 := dkwX4_takesStore_1 ++ []
def dkwX4_takesStore_0 : List UInt8 := [42, 27, 182, 0, 117, 61, 28, 155, 0, 12, 42, 16, 61, 182, 0, 120, 154, 0, 5, 3, 172, 42, 27]
abbrev dktX4_takesStore_0 : List UInt8 := dkwX4_takesStore_0 ++ dktX4_takesStore_1
theorem dksX4_takesStore_0 : cX4_takesStore.data.toList.drop 0 = dktX4_takesStore_0 := by decide +kernel
theorem dksX4_takesStore_1 : cX4_takesStore.data.toList.drop 23 = dktX4_takesStore_1 := dk_seg dksX4_takesStore_0 23 rfl rfl
theorem dX4_takesStore_0 : decode cX4_takesStore 0 = .ok (.aload_n 0, 1) := dk_42 (dk_at dksX4_takesStore_0 0 rfl rfl)
theorem dX4_takesStore_1 : decode cX4_takesStore 1 = .ok (.iload_n 1, 1) := dk_27 (dk_at dksX4_takesStore_0 1 rfl rfl)
theorem dX4_takesStore_2 : decode cX4_takesStore 2 = .ok (.invokevirtual 117, 3) := dk_182 0 117 (dk_at dksX4_takesStore_0 2 rfl rfl)
theorem dX4_takesStore_5 : decode cX4_takesStore 5 = .ok (.istore_n 2, 1) := dk_61 (dk_at dksX4_takesStore_0 5 rfl rfl)
theorem dX4_takesStore_6 : decode cX4_takesStore 6 = .ok (.iload_n 2, 1) := dk_28 (dk_at dksX4_takesStore_0 6 rfl rfl)
theorem dX4_takesStore_7 : decode cX4_takesStore 7 = .ok (.ifCond .lt 12, 3) := dk_155 0 12 (dk_at dksX4_takesStore_0 7 rfl rfl)
theorem dX4_takesStore_10 : decode cX4_takesStore 10 = .ok (.aload_n 0, 1) := dk_42 (dk_at dksX4_takesStore_0 10 rfl rfl)
theorem dX4_takesStore_11 : decode cX4_takesStore 11 = .ok (.bipush 61, 2) := dk_16 61 (dk_at dksX4_takesStore_0 11 rfl rfl)
theorem dX4_takesStore_13 : decode cX4_takesStore 13 = .ok (.invokevirtual 120, 3) := dk_182 0 120 (dk_at dksX4_takesStore_0 13 rfl rfl)
theorem dX4_takesStore_16 : decode cX4_takesStore 16 = .ok (.ifCond .ne 5, 3) := dk_154 0 5 (dk_at dksX4_takesStore_0 16 rfl rfl)
theorem dX4_takesStore_19 : decode cX4_takesStore 19 = .ok (.iconst 0, 1) := dk_3 (dk_at dksX4_takesStore_0 19 rfl rfl)
theorem dX4_takesStore_20 : decode cX4_takesStore 20 = .ok (.ireturn, 1) := dk_172 (dk_at dksX4_takesStore_0 20 rfl rfl)
theorem dX4_takesStore_21 : decode cX4_takesStore 21 = .ok (.aload_n 0, 1) := dk_42 (dk_at dksX4_takesStore_0 21 rfl rfl)
theorem dX4_takesStore_22 : decode cX4_takesStore 22 = .ok (.iload_n 1, 1) := dk_27 (dk_at dksX4_takesStore_0 22 rfl rfl)
theorem dX4_takesStore_23 : decode cX4_takesStore 23 = .ok (.invokevirtual 117, 3) := dk_182 0 117 (dk_at dksX4_takesStore_1 0 rfl rfl)
theorem dX4_takesStore_26 : decode cX4_takesStore 26 = .ok (.istore_n 3, 1) := dk_62 (dk_at dksX4_takesStore_1 3 rfl rfl)
theorem dX4_takesStore_27 : decode cX4_takesStore 27 = .ok (.iload_n 3, 1) := dk_29 (dk_at dksX4_takesStore_1 4 rfl rfl)
theorem dX4_takesStore_28 : decode cX4_takesStore 28 = .ok (.ifCond .ge 5, 3) := dk_156 0 5 (dk_at dksX4_takesStore_1 5 rfl rfl)
theorem dX4_takesStore_31 : decode cX4_takesStore 31 = .ok (.iconst 0, 1) := dk_3 (dk_at dksX4_takesStore_1 8 rfl rfl)
theorem dX4_takesStore_32 : decode cX4_takesStore 32 = .ok (.ireturn, 1) := dk_172 (dk_at dksX4_takesStore_1 9 rfl rfl)
theorem dX4_takesStore_33 : decode cX4_takesStore 33 = .ok (.aload_n 0, 1) := dk_42 (dk_at dksX4_takesStore_1 10 rfl rfl)
theorem dX4_takesStore_34 : decode cX4_takesStore 34 = .ok (.iconst 3, 1) := dk_6 (dk_at dksX4_takesStore_1 11 rfl rfl)
theorem dX4_takesStore_35 : decode cX4_takesStore 35 = .ok (.iload_n 2, 1) := dk_28 (dk_at dksX4_takesStore_1 12 rfl rfl)
theorem dX4_takesStore_36 : decode cX4_takesStore 36 = .ok (.iload_n 3, 1) := dk_29 (dk_at dksX4_takesStore_1 13 rfl rfl)
theorem dX4_takesStore_37 : decode cX4_takesStore 37 = .ok (.iconst 0, 1) := dk_3 (dk_at dksX4_takesStore_1 14 rfl rfl)
theorem dX4_takesStore_38 : decode cX4_takesStore 38 = .ok (.invokevirtual 124, 3) := dk_182 0 124 (dk_at dksX4_takesStore_1 15 rfl rfl)
theorem dX4_takesStore_41 : decode cX4_takesStore 41 = .ok (.iconst 1, 1) := dk_4 (dk_at dksX4_takesStore_1 18 rfl rfl)
theorem dX4_takesStore_42 : decode cX4_takesStore 42 = .ok (.ireturn, 1) := dk_172 (dk_at dksX4_takesStore_1 19 rfl rfl)
abbrev cX4_name : ByteArray := prog_21_method_17_code
def yX4_name : MethodName := ⟨RX4, "name", "(I)I"⟩
def dkwX4_name_4 : List UInt8 := [29, 7, 27, 104, 96, 172]
abbrev dktX4_name_4 : List UInt8 := dkwX4_name_4 ++ []
def dkwX4_name_3 : List UInt8 := [156, 0, 5, 2, 172, 42, 89, 180, 0, 104, 4, 96, 181, 0, 104, 29, 7, 162, 0, 7, 29, 167, 0, 8]
abbrev dktX4_name_3 : List UInt8 := dkwX4_name_3 ++ dktX4_name_4
def dkwX4_name_2 : List UInt8 := [160, 0, 8, 16, 6, 167, 0, 15, 28, 16, 121, 160, 0, 8, 16, 7, 167, 0, 4, 2, 62, 29]
abbrev dktX4_name_2 : List UInt8 := dkwX4_name_2 ++ dktX4_name_3
def dkwX4_name_1 : List UInt8 := [16, 112, 160, 0, 7, 7, 167, 0, 36, 28, 16, 114, 160, 0, 7, 8, 167, 0, 26, 28, 16, 120]
abbrev dktX4_name_1 : List UInt8 := dkwX4_name_1 ++ dktX4_name_2
def dkwX4_name_0 : List UInt8 := [42, 182, 0, 107, 61, 28, 16, 97, 16, 100, 184, 0, 94, 153, 0, 10, 28, 16, 97, 100, 167, 0, 46, 28]
abbrev dktX4_name_0 : List UInt8 := dkwX4_name_0 ++ dktX4_name_1
theorem dksX4_name_0 : cX4_name.data.toList.drop 0 = dktX4_name_0 := by decide +kernel
theorem dksX4_name_1 : cX4_name.data.toList.drop 24 = dktX4_name_1 := dk_seg dksX4_name_0 24 rfl rfl
theorem dksX4_name_2 : cX4_name.data.toList.drop 46 = dktX4_name_2 := dk_seg dksX4_name_1 22 rfl rfl
theorem dksX4_name_3 : cX4_name.data.toList.drop 68 = dktX4_name_3 := dk_seg dksX4_name_2 22 rfl rfl
theorem dksX4_name_4 : cX4_name.data.toList.drop 92 = dktX4_name_4 := dk_seg dksX4_name_3 24 rfl rfl
theorem dX4_name_0 : decode cX4_name 0 = .ok (.aload_n 0, 1) := dk_42 (dk_at dksX4_name_0 0 rfl rfl)
theorem dX4_name_1 : decode cX4_name 1 = .ok (.invokevirtual 107, 3) := dk_182 0 107 (dk_at dksX4_name_0 1 rfl rfl)
theorem dX4_name_4 : decode cX4_name 4 = .ok (.istore_n 2, 1) := dk_61 (dk_at dksX4_name_0 4 rfl rfl)
theorem dX4_name_5 : decode cX4_name 5 = .ok (.iload_n 2, 1) := dk_28 (dk_at dksX4_name_0 5 rfl rfl)
theorem dX4_name_6 : decode cX4_name 6 = .ok (.bipush 97, 2) := dk_16 97 (dk_at dksX4_name_0 6 rfl rfl)
theorem dX4_name_8 : decode cX4_name 8 = .ok (.bipush 100, 2) := dk_16 100 (dk_at dksX4_name_0 8 rfl rfl)
theorem dX4_name_10 : decode cX4_name 10 = .ok (.invokestatic 94, 3) := dk_184 0 94 (dk_at dksX4_name_0 10 rfl rfl)
theorem dX4_name_13 : decode cX4_name 13 = .ok (.ifCond .eq 10, 3) := dk_153 0 10 (dk_at dksX4_name_0 13 rfl rfl)
theorem dX4_name_16 : decode cX4_name 16 = .ok (.iload_n 2, 1) := dk_28 (dk_at dksX4_name_0 16 rfl rfl)
theorem dX4_name_17 : decode cX4_name 17 = .ok (.bipush 97, 2) := dk_16 97 (dk_at dksX4_name_0 17 rfl rfl)
theorem dX4_name_19 : decode cX4_name 19 = .ok (.isub, 1) := dk_100 (dk_at dksX4_name_0 19 rfl rfl)
theorem dX4_name_20 : decode cX4_name 20 = .ok (.goto 46, 3) := dk_167 0 46 (dk_at dksX4_name_0 20 rfl rfl)
theorem dX4_name_23 : decode cX4_name 23 = .ok (.iload_n 2, 1) := dk_28 (dk_at dksX4_name_0 23 rfl rfl)
theorem dX4_name_24 : decode cX4_name 24 = .ok (.bipush 112, 2) := dk_16 112 (dk_at dksX4_name_1 0 rfl rfl)
theorem dX4_name_26 : decode cX4_name 26 = .ok (.if_icmp .ne 7, 3) := dk_160 0 7 (dk_at dksX4_name_1 2 rfl rfl)
theorem dX4_name_29 : decode cX4_name 29 = .ok (.iconst 4, 1) := dk_7 (dk_at dksX4_name_1 5 rfl rfl)
theorem dX4_name_30 : decode cX4_name 30 = .ok (.goto 36, 3) := dk_167 0 36 (dk_at dksX4_name_1 6 rfl rfl)
theorem dX4_name_33 : decode cX4_name 33 = .ok (.iload_n 2, 1) := dk_28 (dk_at dksX4_name_1 9 rfl rfl)
theorem dX4_name_34 : decode cX4_name 34 = .ok (.bipush 114, 2) := dk_16 114 (dk_at dksX4_name_1 10 rfl rfl)
theorem dX4_name_36 : decode cX4_name 36 = .ok (.if_icmp .ne 7, 3) := dk_160 0 7 (dk_at dksX4_name_1 12 rfl rfl)
theorem dX4_name_39 : decode cX4_name 39 = .ok (.iconst 5, 1) := dk_8 (dk_at dksX4_name_1 15 rfl rfl)
theorem dX4_name_40 : decode cX4_name 40 = .ok (.goto 26, 3) := dk_167 0 26 (dk_at dksX4_name_1 16 rfl rfl)
theorem dX4_name_43 : decode cX4_name 43 = .ok (.iload_n 2, 1) := dk_28 (dk_at dksX4_name_1 19 rfl rfl)
theorem dX4_name_44 : decode cX4_name 44 = .ok (.bipush 120, 2) := dk_16 120 (dk_at dksX4_name_1 20 rfl rfl)
theorem dX4_name_46 : decode cX4_name 46 = .ok (.if_icmp .ne 8, 3) := dk_160 0 8 (dk_at dksX4_name_2 0 rfl rfl)
theorem dX4_name_49 : decode cX4_name 49 = .ok (.bipush 6, 2) := dk_16 6 (dk_at dksX4_name_2 3 rfl rfl)
theorem dX4_name_51 : decode cX4_name 51 = .ok (.goto 15, 3) := dk_167 0 15 (dk_at dksX4_name_2 5 rfl rfl)
theorem dX4_name_54 : decode cX4_name 54 = .ok (.iload_n 2, 1) := dk_28 (dk_at dksX4_name_2 8 rfl rfl)
theorem dX4_name_55 : decode cX4_name 55 = .ok (.bipush 121, 2) := dk_16 121 (dk_at dksX4_name_2 9 rfl rfl)
theorem dX4_name_57 : decode cX4_name 57 = .ok (.if_icmp .ne 8, 3) := dk_160 0 8 (dk_at dksX4_name_2 11 rfl rfl)
theorem dX4_name_60 : decode cX4_name 60 = .ok (.bipush 7, 2) := dk_16 7 (dk_at dksX4_name_2 14 rfl rfl)
theorem dX4_name_62 : decode cX4_name 62 = .ok (.goto 4, 3) := dk_167 0 4 (dk_at dksX4_name_2 16 rfl rfl)
theorem dX4_name_65 : decode cX4_name 65 = .ok (.iconst (-1), 1) := dk_2 (dk_at dksX4_name_2 19 rfl rfl)
theorem dX4_name_66 : decode cX4_name 66 = .ok (.istore_n 3, 1) := dk_62 (dk_at dksX4_name_2 20 rfl rfl)
theorem dX4_name_67 : decode cX4_name 67 = .ok (.iload_n 3, 1) := dk_29 (dk_at dksX4_name_2 21 rfl rfl)
theorem dX4_name_68 : decode cX4_name 68 = .ok (.ifCond .ge 5, 3) := dk_156 0 5 (dk_at dksX4_name_3 0 rfl rfl)
theorem dX4_name_71 : decode cX4_name 71 = .ok (.iconst (-1), 1) := dk_2 (dk_at dksX4_name_3 3 rfl rfl)
theorem dX4_name_72 : decode cX4_name 72 = .ok (.ireturn, 1) := dk_172 (dk_at dksX4_name_3 4 rfl rfl)
theorem dX4_name_73 : decode cX4_name 73 = .ok (.aload_n 0, 1) := dk_42 (dk_at dksX4_name_3 5 rfl rfl)
theorem dX4_name_74 : decode cX4_name 74 = .ok (.dup, 1) := dk_89 (dk_at dksX4_name_3 6 rfl rfl)
theorem dX4_name_75 : decode cX4_name 75 = .ok (.getfield 104, 3) := dk_180 0 104 (dk_at dksX4_name_3 7 rfl rfl)
theorem dX4_name_78 : decode cX4_name 78 = .ok (.iconst 1, 1) := dk_4 (dk_at dksX4_name_3 10 rfl rfl)
theorem dX4_name_79 : decode cX4_name 79 = .ok (.iadd, 1) := dk_96 (dk_at dksX4_name_3 11 rfl rfl)
theorem dX4_name_80 : decode cX4_name 80 = .ok (.putfield 104, 3) := dk_181 0 104 (dk_at dksX4_name_3 12 rfl rfl)
theorem dX4_name_83 : decode cX4_name 83 = .ok (.iload_n 3, 1) := dk_29 (dk_at dksX4_name_3 15 rfl rfl)
theorem dX4_name_84 : decode cX4_name 84 = .ok (.iconst 4, 1) := dk_7 (dk_at dksX4_name_3 16 rfl rfl)
theorem dX4_name_85 : decode cX4_name 85 = .ok (.if_icmp .ge 7, 3) := dk_162 0 7 (dk_at dksX4_name_3 17 rfl rfl)
theorem dX4_name_88 : decode cX4_name 88 = .ok (.iload_n 3, 1) := dk_29 (dk_at dksX4_name_3 20 rfl rfl)
theorem dX4_name_89 : decode cX4_name 89 = .ok (.goto 8, 3) := dk_167 0 8 (dk_at dksX4_name_3 21 rfl rfl)
theorem dX4_name_92 : decode cX4_name 92 = .ok (.iload_n 3, 1) := dk_29 (dk_at dksX4_name_4 0 rfl rfl)
theorem dX4_name_93 : decode cX4_name 93 = .ok (.iconst 4, 1) := dk_7 (dk_at dksX4_name_4 1 rfl rfl)
theorem dX4_name_94 : decode cX4_name 94 = .ok (.iload_n 1, 1) := dk_27 (dk_at dksX4_name_4 2 rfl rfl)
theorem dX4_name_95 : decode cX4_name 95 = .ok (.imul, 1) := dk_104 (dk_at dksX4_name_4 3 rfl rfl)
theorem dX4_name_96 : decode cX4_name 96 = .ok (.iadd, 1) := dk_96 (dk_at dksX4_name_4 4 rfl rfl)
theorem dX4_name_97 : decode cX4_name 97 = .ok (.ireturn, 1) := dk_172 (dk_at dksX4_name_4 5 rfl rfl)
abbrev cX4_puts : ByteArray := prog_21_method_19_code
def yX4_puts : MethodName := ⟨RX4, "puts", "(IIII)V"⟩
def dkwX4_puts_4 : List UInt8 := [4, 167, 0, 4, 3, 96, 181, 0, 114, 177]
abbrev dktX4_puts_4 : List UInt8 := dkwX4_puts_4 ++ []
def dkwX4_puts_3 : List UInt8 := [7, 160, 0, 7, 4, 167, 0, 4, 3, 96, 181, 0, 111, 42, 89, 180, 0, 114, 27, 16, 6, 160, 0, 7]
abbrev dktX4_puts_3 : List UInt8 := dkwX4_puts_3 ++ dktX4_puts_4
def dkwX4_puts_2 : List UInt8 := [180, 0, 19, 21, 5, 21, 4, 79, 42, 180, 0, 22, 7, 92, 46, 4, 96, 79, 42, 89, 180, 0, 111, 27]
abbrev dktX4_puts_2 : List UInt8 := dkwX4_puts_2 ++ dktX4_puts_3
def dkwX4_puts_1 : List UInt8 := [180, 0, 7, 21, 5, 27, 79, 42, 180, 0, 13, 21, 5, 28, 79, 42, 180, 0, 16, 21, 5, 29, 79, 42]
abbrev dktX4_puts_1 : List UInt8 := dkwX4_puts_1 ++ dktX4_puts_2
def dkwX4_puts_0 : List UInt8 := [42, 180, 0, 22, 7, 46, 16, 12, 162, 0, 47, 16, 48, 42, 180, 0, 22, 7, 46, 96, 54, 5, 42]
abbrev dktX4_puts_0 : List UInt8 := dkwX4_puts_0 ++ dktX4_puts_1
theorem dksX4_puts_0 : cX4_puts.data.toList.drop 0 = dktX4_puts_0 := by decide +kernel
theorem dksX4_puts_1 : cX4_puts.data.toList.drop 23 = dktX4_puts_1 := dk_seg dksX4_puts_0 23 rfl rfl
theorem dksX4_puts_2 : cX4_puts.data.toList.drop 47 = dktX4_puts_2 := dk_seg dksX4_puts_1 24 rfl rfl
theorem dksX4_puts_3 : cX4_puts.data.toList.drop 71 = dktX4_puts_3 := dk_seg dksX4_puts_2 24 rfl rfl
theorem dksX4_puts_4 : cX4_puts.data.toList.drop 95 = dktX4_puts_4 := dk_seg dksX4_puts_3 24 rfl rfl
theorem dX4_puts_0 : decode cX4_puts 0 = .ok (.aload_n 0, 1) := dk_42 (dk_at dksX4_puts_0 0 rfl rfl)
theorem dX4_puts_1 : decode cX4_puts 1 = .ok (.getfield 22, 3) := dk_180 0 22 (dk_at dksX4_puts_0 1 rfl rfl)
theorem dX4_puts_4 : decode cX4_puts 4 = .ok (.iconst 4, 1) := dk_7 (dk_at dksX4_puts_0 4 rfl rfl)
theorem dX4_puts_5 : decode cX4_puts 5 = .ok (.iaload, 1) := dk_46 (dk_at dksX4_puts_0 5 rfl rfl)
theorem dX4_puts_6 : decode cX4_puts 6 = .ok (.bipush 12, 2) := dk_16 12 (dk_at dksX4_puts_0 6 rfl rfl)
theorem dX4_puts_8 : decode cX4_puts 8 = .ok (.if_icmp .ge 47, 3) := dk_162 0 47 (dk_at dksX4_puts_0 8 rfl rfl)
theorem dX4_puts_11 : decode cX4_puts 11 = .ok (.bipush 48, 2) := dk_16 48 (dk_at dksX4_puts_0 11 rfl rfl)
theorem dX4_puts_13 : decode cX4_puts 13 = .ok (.aload_n 0, 1) := dk_42 (dk_at dksX4_puts_0 13 rfl rfl)
theorem dX4_puts_14 : decode cX4_puts 14 = .ok (.getfield 22, 3) := dk_180 0 22 (dk_at dksX4_puts_0 14 rfl rfl)
theorem dX4_puts_17 : decode cX4_puts 17 = .ok (.iconst 4, 1) := dk_7 (dk_at dksX4_puts_0 17 rfl rfl)
theorem dX4_puts_18 : decode cX4_puts 18 = .ok (.iaload, 1) := dk_46 (dk_at dksX4_puts_0 18 rfl rfl)
theorem dX4_puts_19 : decode cX4_puts 19 = .ok (.iadd, 1) := dk_96 (dk_at dksX4_puts_0 19 rfl rfl)
theorem dX4_puts_20 : decode cX4_puts 20 = .ok (.istore 5, 2) := dk_54 5 (dk_at dksX4_puts_0 20 rfl rfl)
theorem dX4_puts_22 : decode cX4_puts 22 = .ok (.aload_n 0, 1) := dk_42 (dk_at dksX4_puts_0 22 rfl rfl)
theorem dX4_puts_23 : decode cX4_puts 23 = .ok (.getfield 7, 3) := dk_180 0 7 (dk_at dksX4_puts_1 0 rfl rfl)
theorem dX4_puts_26 : decode cX4_puts 26 = .ok (.iload 5, 2) := dk_21 5 (dk_at dksX4_puts_1 3 rfl rfl)
theorem dX4_puts_28 : decode cX4_puts 28 = .ok (.iload_n 1, 1) := dk_27 (dk_at dksX4_puts_1 5 rfl rfl)
theorem dX4_puts_29 : decode cX4_puts 29 = .ok (.iastore, 1) := dk_79 (dk_at dksX4_puts_1 6 rfl rfl)
theorem dX4_puts_30 : decode cX4_puts 30 = .ok (.aload_n 0, 1) := dk_42 (dk_at dksX4_puts_1 7 rfl rfl)
theorem dX4_puts_31 : decode cX4_puts 31 = .ok (.getfield 13, 3) := dk_180 0 13 (dk_at dksX4_puts_1 8 rfl rfl)
theorem dX4_puts_34 : decode cX4_puts 34 = .ok (.iload 5, 2) := dk_21 5 (dk_at dksX4_puts_1 11 rfl rfl)
theorem dX4_puts_36 : decode cX4_puts 36 = .ok (.iload_n 2, 1) := dk_28 (dk_at dksX4_puts_1 13 rfl rfl)
theorem dX4_puts_37 : decode cX4_puts 37 = .ok (.iastore, 1) := dk_79 (dk_at dksX4_puts_1 14 rfl rfl)
theorem dX4_puts_38 : decode cX4_puts 38 = .ok (.aload_n 0, 1) := dk_42 (dk_at dksX4_puts_1 15 rfl rfl)
theorem dX4_puts_39 : decode cX4_puts 39 = .ok (.getfield 16, 3) := dk_180 0 16 (dk_at dksX4_puts_1 16 rfl rfl)
theorem dX4_puts_42 : decode cX4_puts 42 = .ok (.iload 5, 2) := dk_21 5 (dk_at dksX4_puts_1 19 rfl rfl)
theorem dX4_puts_44 : decode cX4_puts 44 = .ok (.iload_n 3, 1) := dk_29 (dk_at dksX4_puts_1 21 rfl rfl)
theorem dX4_puts_45 : decode cX4_puts 45 = .ok (.iastore, 1) := dk_79 (dk_at dksX4_puts_1 22 rfl rfl)
theorem dX4_puts_46 : decode cX4_puts 46 = .ok (.aload_n 0, 1) := dk_42 (dk_at dksX4_puts_1 23 rfl rfl)
theorem dX4_puts_47 : decode cX4_puts 47 = .ok (.getfield 19, 3) := dk_180 0 19 (dk_at dksX4_puts_2 0 rfl rfl)
theorem dX4_puts_50 : decode cX4_puts 50 = .ok (.iload 5, 2) := dk_21 5 (dk_at dksX4_puts_2 3 rfl rfl)
theorem dX4_puts_52 : decode cX4_puts 52 = .ok (.iload 4, 2) := dk_21 4 (dk_at dksX4_puts_2 5 rfl rfl)
theorem dX4_puts_54 : decode cX4_puts 54 = .ok (.iastore, 1) := dk_79 (dk_at dksX4_puts_2 7 rfl rfl)
theorem dX4_puts_55 : decode cX4_puts 55 = .ok (.aload_n 0, 1) := dk_42 (dk_at dksX4_puts_2 8 rfl rfl)
theorem dX4_puts_56 : decode cX4_puts 56 = .ok (.getfield 22, 3) := dk_180 0 22 (dk_at dksX4_puts_2 9 rfl rfl)
theorem dX4_puts_59 : decode cX4_puts 59 = .ok (.iconst 4, 1) := dk_7 (dk_at dksX4_puts_2 12 rfl rfl)
theorem dX4_puts_60 : decode cX4_puts 60 = .ok (.dup2, 1) := dk_92 (dk_at dksX4_puts_2 13 rfl rfl)
theorem dX4_puts_61 : decode cX4_puts 61 = .ok (.iaload, 1) := dk_46 (dk_at dksX4_puts_2 14 rfl rfl)
theorem dX4_puts_62 : decode cX4_puts 62 = .ok (.iconst 1, 1) := dk_4 (dk_at dksX4_puts_2 15 rfl rfl)
theorem dX4_puts_63 : decode cX4_puts 63 = .ok (.iadd, 1) := dk_96 (dk_at dksX4_puts_2 16 rfl rfl)
theorem dX4_puts_64 : decode cX4_puts 64 = .ok (.iastore, 1) := dk_79 (dk_at dksX4_puts_2 17 rfl rfl)
theorem dX4_puts_65 : decode cX4_puts 65 = .ok (.aload_n 0, 1) := dk_42 (dk_at dksX4_puts_2 18 rfl rfl)
theorem dX4_puts_66 : decode cX4_puts 66 = .ok (.dup, 1) := dk_89 (dk_at dksX4_puts_2 19 rfl rfl)
theorem dX4_puts_67 : decode cX4_puts 67 = .ok (.getfield 111, 3) := dk_180 0 111 (dk_at dksX4_puts_2 20 rfl rfl)
theorem dX4_puts_70 : decode cX4_puts 70 = .ok (.iload_n 1, 1) := dk_27 (dk_at dksX4_puts_2 23 rfl rfl)
theorem dX4_puts_71 : decode cX4_puts 71 = .ok (.iconst 4, 1) := dk_7 (dk_at dksX4_puts_3 0 rfl rfl)
theorem dX4_puts_72 : decode cX4_puts 72 = .ok (.if_icmp .ne 7, 3) := dk_160 0 7 (dk_at dksX4_puts_3 1 rfl rfl)
theorem dX4_puts_75 : decode cX4_puts 75 = .ok (.iconst 1, 1) := dk_4 (dk_at dksX4_puts_3 4 rfl rfl)
theorem dX4_puts_76 : decode cX4_puts 76 = .ok (.goto 4, 3) := dk_167 0 4 (dk_at dksX4_puts_3 5 rfl rfl)
theorem dX4_puts_79 : decode cX4_puts 79 = .ok (.iconst 0, 1) := dk_3 (dk_at dksX4_puts_3 8 rfl rfl)
theorem dX4_puts_80 : decode cX4_puts 80 = .ok (.iadd, 1) := dk_96 (dk_at dksX4_puts_3 9 rfl rfl)
theorem dX4_puts_81 : decode cX4_puts 81 = .ok (.putfield 111, 3) := dk_181 0 111 (dk_at dksX4_puts_3 10 rfl rfl)
theorem dX4_puts_84 : decode cX4_puts 84 = .ok (.aload_n 0, 1) := dk_42 (dk_at dksX4_puts_3 13 rfl rfl)
theorem dX4_puts_85 : decode cX4_puts 85 = .ok (.dup, 1) := dk_89 (dk_at dksX4_puts_3 14 rfl rfl)
theorem dX4_puts_86 : decode cX4_puts 86 = .ok (.getfield 114, 3) := dk_180 0 114 (dk_at dksX4_puts_3 15 rfl rfl)
theorem dX4_puts_89 : decode cX4_puts 89 = .ok (.iload_n 1, 1) := dk_27 (dk_at dksX4_puts_3 18 rfl rfl)
theorem dX4_puts_90 : decode cX4_puts 90 = .ok (.bipush 6, 2) := dk_16 6 (dk_at dksX4_puts_3 19 rfl rfl)
theorem dX4_puts_92 : decode cX4_puts 92 = .ok (.if_icmp .ne 7, 3) := dk_160 0 7 (dk_at dksX4_puts_3 21 rfl rfl)
theorem dX4_puts_95 : decode cX4_puts 95 = .ok (.iconst 1, 1) := dk_4 (dk_at dksX4_puts_4 0 rfl rfl)
theorem dX4_puts_96 : decode cX4_puts 96 = .ok (.goto 4, 3) := dk_167 0 4 (dk_at dksX4_puts_4 1 rfl rfl)
theorem dX4_puts_99 : decode cX4_puts 99 = .ok (.iconst 0, 1) := dk_3 (dk_at dksX4_puts_4 4 rfl rfl)
theorem dX4_puts_100 : decode cX4_puts 100 = .ok (.iadd, 1) := dk_96 (dk_at dksX4_puts_4 5 rfl rfl)
theorem dX4_puts_101 : decode cX4_puts 101 = .ok (.putfield 114, 3) := dk_181 0 114 (dk_at dksX4_puts_4 6 rfl rfl)
theorem dX4_puts_104 : decode cX4_puts 104 = .ok (.return_, 1) := dk_177 (dk_at dksX4_puts_4 9 rfl rfl)
abbrev cX4_takesCall : ByteArray := prog_21_method_21_code
def yX4_takesCall : MethodName := ⟨RX4, "takesCall", "(II)Z"⟩
def dkwX4_takesCall_2 : List UInt8 := [28, 21, 4, 29, 182, 0, 124, 4, 172]
abbrev dktX4_takesCall_2 : List UInt8 := dkwX4_takesCall_2 ++ []
def dkwX4_takesCall_1 : List UInt8 := [182, 0, 117, 54, 4, 21, 4, 155, 0, 12, 42, 16, 41, 182, 0, 120, 154, 0, 5, 3, 172, 42, 16, 6]
abbrev dktX4_takesCall_1 : List UInt8 := dkwX4_takesCall_1 ++ dktX4_takesCall_2
def dkwX4_takesCall_0 : List UInt8 := [42, 6, 182, 0, 128, 62, 29, 155, 0, 12, 42, 16, 40, 182, 0, 120, 154, 0, 5, 3, 172, 42, 27]
abbrev dktX4_takesCall_0 : List UInt8 := dkwX4_takesCall_0 ++ dktX4_takesCall_1
theorem dksX4_takesCall_0 : cX4_takesCall.data.toList.drop 0 = dktX4_takesCall_0 := by decide +kernel
theorem dksX4_takesCall_1 : cX4_takesCall.data.toList.drop 23 = dktX4_takesCall_1 := dk_seg dksX4_takesCall_0 23 rfl rfl
theorem dksX4_takesCall_2 : cX4_takesCall.data.toList.drop 47 = dktX4_takesCall_2 := dk_seg dksX4_takesCall_1 24 rfl rfl
theorem dX4_takesCall_0 : decode cX4_takesCall 0 = .ok (.aload_n 0, 1) := dk_42 (dk_at dksX4_takesCall_0 0 rfl rfl)
theorem dX4_takesCall_1 : decode cX4_takesCall 1 = .ok (.iconst 3, 1) := dk_6 (dk_at dksX4_takesCall_0 1 rfl rfl)
theorem dX4_takesCall_2 : decode cX4_takesCall 2 = .ok (.invokevirtual 128, 3) := dk_182 0 128 (dk_at dksX4_takesCall_0 2 rfl rfl)
theorem dX4_takesCall_5 : decode cX4_takesCall 5 = .ok (.istore_n 3, 1) := dk_62 (dk_at dksX4_takesCall_0 5 rfl rfl)
theorem dX4_takesCall_6 : decode cX4_takesCall 6 = .ok (.iload_n 3, 1) := dk_29 (dk_at dksX4_takesCall_0 6 rfl rfl)
theorem dX4_takesCall_7 : decode cX4_takesCall 7 = .ok (.ifCond .lt 12, 3) := dk_155 0 12 (dk_at dksX4_takesCall_0 7 rfl rfl)
theorem dX4_takesCall_10 : decode cX4_takesCall 10 = .ok (.aload_n 0, 1) := dk_42 (dk_at dksX4_takesCall_0 10 rfl rfl)
theorem dX4_takesCall_11 : decode cX4_takesCall 11 = .ok (.bipush 40, 2) := dk_16 40 (dk_at dksX4_takesCall_0 11 rfl rfl)
theorem dX4_takesCall_13 : decode cX4_takesCall 13 = .ok (.invokevirtual 120, 3) := dk_182 0 120 (dk_at dksX4_takesCall_0 13 rfl rfl)
theorem dX4_takesCall_16 : decode cX4_takesCall 16 = .ok (.ifCond .ne 5, 3) := dk_154 0 5 (dk_at dksX4_takesCall_0 16 rfl rfl)
theorem dX4_takesCall_19 : decode cX4_takesCall 19 = .ok (.iconst 0, 1) := dk_3 (dk_at dksX4_takesCall_0 19 rfl rfl)
theorem dX4_takesCall_20 : decode cX4_takesCall 20 = .ok (.ireturn, 1) := dk_172 (dk_at dksX4_takesCall_0 20 rfl rfl)
theorem dX4_takesCall_21 : decode cX4_takesCall 21 = .ok (.aload_n 0, 1) := dk_42 (dk_at dksX4_takesCall_0 21 rfl rfl)
theorem dX4_takesCall_22 : decode cX4_takesCall 22 = .ok (.iload_n 1, 1) := dk_27 (dk_at dksX4_takesCall_0 22 rfl rfl)
theorem dX4_takesCall_23 : decode cX4_takesCall 23 = .ok (.invokevirtual 117, 3) := dk_182 0 117 (dk_at dksX4_takesCall_1 0 rfl rfl)
theorem dX4_takesCall_26 : decode cX4_takesCall 26 = .ok (.istore 4, 2) := dk_54 4 (dk_at dksX4_takesCall_1 3 rfl rfl)
theorem dX4_takesCall_28 : decode cX4_takesCall 28 = .ok (.iload 4, 2) := dk_21 4 (dk_at dksX4_takesCall_1 5 rfl rfl)
theorem dX4_takesCall_30 : decode cX4_takesCall 30 = .ok (.ifCond .lt 12, 3) := dk_155 0 12 (dk_at dksX4_takesCall_1 7 rfl rfl)
theorem dX4_takesCall_33 : decode cX4_takesCall 33 = .ok (.aload_n 0, 1) := dk_42 (dk_at dksX4_takesCall_1 10 rfl rfl)
theorem dX4_takesCall_34 : decode cX4_takesCall 34 = .ok (.bipush 41, 2) := dk_16 41 (dk_at dksX4_takesCall_1 11 rfl rfl)
theorem dX4_takesCall_36 : decode cX4_takesCall 36 = .ok (.invokevirtual 120, 3) := dk_182 0 120 (dk_at dksX4_takesCall_1 13 rfl rfl)
theorem dX4_takesCall_39 : decode cX4_takesCall 39 = .ok (.ifCond .ne 5, 3) := dk_154 0 5 (dk_at dksX4_takesCall_1 16 rfl rfl)
theorem dX4_takesCall_42 : decode cX4_takesCall 42 = .ok (.iconst 0, 1) := dk_3 (dk_at dksX4_takesCall_1 19 rfl rfl)
theorem dX4_takesCall_43 : decode cX4_takesCall 43 = .ok (.ireturn, 1) := dk_172 (dk_at dksX4_takesCall_1 20 rfl rfl)
theorem dX4_takesCall_44 : decode cX4_takesCall 44 = .ok (.aload_n 0, 1) := dk_42 (dk_at dksX4_takesCall_1 21 rfl rfl)
theorem dX4_takesCall_45 : decode cX4_takesCall 45 = .ok (.bipush 6, 2) := dk_16 6 (dk_at dksX4_takesCall_1 22 rfl rfl)
theorem dX4_takesCall_47 : decode cX4_takesCall 47 = .ok (.iload_n 2, 1) := dk_28 (dk_at dksX4_takesCall_2 0 rfl rfl)
theorem dX4_takesCall_48 : decode cX4_takesCall 48 = .ok (.iload 4, 2) := dk_21 4 (dk_at dksX4_takesCall_2 1 rfl rfl)
theorem dX4_takesCall_50 : decode cX4_takesCall 50 = .ok (.iload_n 3, 1) := dk_29 (dk_at dksX4_takesCall_2 3 rfl rfl)
theorem dX4_takesCall_51 : decode cX4_takesCall 51 = .ok (.invokevirtual 124, 3) := dk_182 0 124 (dk_at dksX4_takesCall_2 4 rfl rfl)
theorem dX4_takesCall_54 : decode cX4_takesCall 54 = .ok (.iconst 1, 1) := dk_4 (dk_at dksX4_takesCall_2 7 rfl rfl)
theorem dX4_takesCall_55 : decode cX4_takesCall 55 = .ok (.ireturn, 1) := dk_172 (dk_at dksX4_takesCall_2 8 rfl rfl)
abbrev cX4_digit : ByteArray := prog_21_method_18_code
def yX4_digit : MethodName := ⟨RX4, "digit", "(I)I"⟩
def dkwX4_digit_1 : List UInt8 := [96, 181, 0, 104, 42, 180, 0, 25, 42, 180, 0, 104, 4, 100, 46, 16, 48, 100, 172]
abbrev dktX4_digit_1 : List UInt8 := dkwX4_digit_1 ++ []
def dkwX4_digit_0 : List UInt8 := [42, 182, 0, 107, 16, 48, 16, 48, 27, 96, 184, 0, 94, 154, 0, 5, 2, 172, 42, 89, 180, 0, 104, 4]
abbrev dktX4_digit_0 : List UInt8 := dkwX4_digit_0 ++ dktX4_digit_1
theorem dksX4_digit_0 : cX4_digit.data.toList.drop 0 = dktX4_digit_0 := by decide +kernel
theorem dksX4_digit_1 : cX4_digit.data.toList.drop 24 = dktX4_digit_1 := dk_seg dksX4_digit_0 24 rfl rfl
theorem dX4_digit_0 : decode cX4_digit 0 = .ok (.aload_n 0, 1) := dk_42 (dk_at dksX4_digit_0 0 rfl rfl)
theorem dX4_digit_1 : decode cX4_digit 1 = .ok (.invokevirtual 107, 3) := dk_182 0 107 (dk_at dksX4_digit_0 1 rfl rfl)
theorem dX4_digit_4 : decode cX4_digit 4 = .ok (.bipush 48, 2) := dk_16 48 (dk_at dksX4_digit_0 4 rfl rfl)
theorem dX4_digit_6 : decode cX4_digit 6 = .ok (.bipush 48, 2) := dk_16 48 (dk_at dksX4_digit_0 6 rfl rfl)
theorem dX4_digit_8 : decode cX4_digit 8 = .ok (.iload_n 1, 1) := dk_27 (dk_at dksX4_digit_0 8 rfl rfl)
theorem dX4_digit_9 : decode cX4_digit 9 = .ok (.iadd, 1) := dk_96 (dk_at dksX4_digit_0 9 rfl rfl)
theorem dX4_digit_10 : decode cX4_digit 10 = .ok (.invokestatic 94, 3) := dk_184 0 94 (dk_at dksX4_digit_0 10 rfl rfl)
theorem dX4_digit_13 : decode cX4_digit 13 = .ok (.ifCond .ne 5, 3) := dk_154 0 5 (dk_at dksX4_digit_0 13 rfl rfl)
theorem dX4_digit_16 : decode cX4_digit 16 = .ok (.iconst (-1), 1) := dk_2 (dk_at dksX4_digit_0 16 rfl rfl)
theorem dX4_digit_17 : decode cX4_digit 17 = .ok (.ireturn, 1) := dk_172 (dk_at dksX4_digit_0 17 rfl rfl)
theorem dX4_digit_18 : decode cX4_digit 18 = .ok (.aload_n 0, 1) := dk_42 (dk_at dksX4_digit_0 18 rfl rfl)
theorem dX4_digit_19 : decode cX4_digit 19 = .ok (.dup, 1) := dk_89 (dk_at dksX4_digit_0 19 rfl rfl)
theorem dX4_digit_20 : decode cX4_digit 20 = .ok (.getfield 104, 3) := dk_180 0 104 (dk_at dksX4_digit_0 20 rfl rfl)
theorem dX4_digit_23 : decode cX4_digit 23 = .ok (.iconst 1, 1) := dk_4 (dk_at dksX4_digit_0 23 rfl rfl)
theorem dX4_digit_24 : decode cX4_digit 24 = .ok (.iadd, 1) := dk_96 (dk_at dksX4_digit_1 0 rfl rfl)
theorem dX4_digit_25 : decode cX4_digit 25 = .ok (.putfield 104, 3) := dk_181 0 104 (dk_at dksX4_digit_1 1 rfl rfl)
theorem dX4_digit_28 : decode cX4_digit 28 = .ok (.aload_n 0, 1) := dk_42 (dk_at dksX4_digit_1 4 rfl rfl)
theorem dX4_digit_29 : decode cX4_digit 29 = .ok (.getfield 25, 3) := dk_180 0 25 (dk_at dksX4_digit_1 5 rfl rfl)
theorem dX4_digit_32 : decode cX4_digit 32 = .ok (.aload_n 0, 1) := dk_42 (dk_at dksX4_digit_1 8 rfl rfl)
theorem dX4_digit_33 : decode cX4_digit 33 = .ok (.getfield 104, 3) := dk_180 0 104 (dk_at dksX4_digit_1 9 rfl rfl)
theorem dX4_digit_36 : decode cX4_digit 36 = .ok (.iconst 1, 1) := dk_4 (dk_at dksX4_digit_1 12 rfl rfl)
theorem dX4_digit_37 : decode cX4_digit 37 = .ok (.isub, 1) := dk_100 (dk_at dksX4_digit_1 13 rfl rfl)
theorem dX4_digit_38 : decode cX4_digit 38 = .ok (.iaload, 1) := dk_46 (dk_at dksX4_digit_1 14 rfl rfl)
theorem dX4_digit_39 : decode cX4_digit 39 = .ok (.bipush 48, 2) := dk_16 48 (dk_at dksX4_digit_1 15 rfl rfl)
theorem dX4_digit_41 : decode cX4_digit 41 = .ok (.isub, 1) := dk_100 (dk_at dksX4_digit_1 17 rfl rfl)
theorem dX4_digit_42 : decode cX4_digit 42 = .ok (.ireturn, 1) := dk_172 (dk_at dksX4_digit_1 18 rfl rfl)
abbrev cX4_many : ByteArray := prog_21_method_12_code
def yX4_many : MethodName := ⟨RX4, "many", "(II)I"⟩
def dkwX4_many_2 : List UInt8 := [160, 0, 7, 4, 167, 0, 4, 3, 96, 62, 132, 5, 1, 167, 255, 210, 132, 4, 1, 167, 255, 195, 29, 172]
abbrev dktX4_many_2 : List UInt8 := dkwX4_many_2 ++ []
def dkwX4_many_1 : List UInt8 := [162, 0, 40, 29, 21, 4, 28, 159, 0, 24, 42, 180, 0, 7, 16, 12, 21, 4, 104, 21, 5, 96, 46, 27]
abbrev dktX4_many_1 : List UInt8 := dkwX4_many_1 ++ dktX4_many_2
def dkwX4_many_0 : List UInt8 := [3, 62, 3, 54, 4, 21, 4, 7, 162, 0, 61, 3, 54, 5, 21, 5, 42, 180, 0, 22, 21, 4, 46]
abbrev dktX4_many_0 : List UInt8 := dkwX4_many_0 ++ dktX4_many_1
theorem dksX4_many_0 : cX4_many.data.toList.drop 0 = dktX4_many_0 := by decide +kernel
theorem dksX4_many_1 : cX4_many.data.toList.drop 23 = dktX4_many_1 := dk_seg dksX4_many_0 23 rfl rfl
theorem dksX4_many_2 : cX4_many.data.toList.drop 47 = dktX4_many_2 := dk_seg dksX4_many_1 24 rfl rfl
theorem dX4_many_0 : decode cX4_many 0 = .ok (.iconst 0, 1) := dk_3 (dk_at dksX4_many_0 0 rfl rfl)
theorem dX4_many_1 : decode cX4_many 1 = .ok (.istore_n 3, 1) := dk_62 (dk_at dksX4_many_0 1 rfl rfl)
theorem dX4_many_2 : decode cX4_many 2 = .ok (.iconst 0, 1) := dk_3 (dk_at dksX4_many_0 2 rfl rfl)
theorem dX4_many_3 : decode cX4_many 3 = .ok (.istore 4, 2) := dk_54 4 (dk_at dksX4_many_0 3 rfl rfl)
theorem dX4_many_5 : decode cX4_many 5 = .ok (.iload 4, 2) := dk_21 4 (dk_at dksX4_many_0 5 rfl rfl)
theorem dX4_many_7 : decode cX4_many 7 = .ok (.iconst 4, 1) := dk_7 (dk_at dksX4_many_0 7 rfl rfl)
theorem dX4_many_8 : decode cX4_many 8 = .ok (.if_icmp .ge 61, 3) := dk_162 0 61 (dk_at dksX4_many_0 8 rfl rfl)
theorem dX4_many_11 : decode cX4_many 11 = .ok (.iconst 0, 1) := dk_3 (dk_at dksX4_many_0 11 rfl rfl)
theorem dX4_many_12 : decode cX4_many 12 = .ok (.istore 5, 2) := dk_54 5 (dk_at dksX4_many_0 12 rfl rfl)
theorem dX4_many_14 : decode cX4_many 14 = .ok (.iload 5, 2) := dk_21 5 (dk_at dksX4_many_0 14 rfl rfl)
theorem dX4_many_16 : decode cX4_many 16 = .ok (.aload_n 0, 1) := dk_42 (dk_at dksX4_many_0 16 rfl rfl)
theorem dX4_many_17 : decode cX4_many 17 = .ok (.getfield 22, 3) := dk_180 0 22 (dk_at dksX4_many_0 17 rfl rfl)
theorem dX4_many_20 : decode cX4_many 20 = .ok (.iload 4, 2) := dk_21 4 (dk_at dksX4_many_0 20 rfl rfl)
theorem dX4_many_22 : decode cX4_many 22 = .ok (.iaload, 1) := dk_46 (dk_at dksX4_many_0 22 rfl rfl)
theorem dX4_many_23 : decode cX4_many 23 = .ok (.if_icmp .ge 40, 3) := dk_162 0 40 (dk_at dksX4_many_1 0 rfl rfl)
theorem dX4_many_26 : decode cX4_many 26 = .ok (.iload_n 3, 1) := dk_29 (dk_at dksX4_many_1 3 rfl rfl)
theorem dX4_many_27 : decode cX4_many 27 = .ok (.iload 4, 2) := dk_21 4 (dk_at dksX4_many_1 4 rfl rfl)
theorem dX4_many_29 : decode cX4_many 29 = .ok (.iload_n 2, 1) := dk_28 (dk_at dksX4_many_1 6 rfl rfl)
theorem dX4_many_30 : decode cX4_many 30 = .ok (.if_icmp .eq 24, 3) := dk_159 0 24 (dk_at dksX4_many_1 7 rfl rfl)
theorem dX4_many_33 : decode cX4_many 33 = .ok (.aload_n 0, 1) := dk_42 (dk_at dksX4_many_1 10 rfl rfl)
theorem dX4_many_34 : decode cX4_many 34 = .ok (.getfield 7, 3) := dk_180 0 7 (dk_at dksX4_many_1 11 rfl rfl)
theorem dX4_many_37 : decode cX4_many 37 = .ok (.bipush 12, 2) := dk_16 12 (dk_at dksX4_many_1 14 rfl rfl)
theorem dX4_many_39 : decode cX4_many 39 = .ok (.iload 4, 2) := dk_21 4 (dk_at dksX4_many_1 16 rfl rfl)
theorem dX4_many_41 : decode cX4_many 41 = .ok (.imul, 1) := dk_104 (dk_at dksX4_many_1 18 rfl rfl)
theorem dX4_many_42 : decode cX4_many 42 = .ok (.iload 5, 2) := dk_21 5 (dk_at dksX4_many_1 19 rfl rfl)
theorem dX4_many_44 : decode cX4_many 44 = .ok (.iadd, 1) := dk_96 (dk_at dksX4_many_1 21 rfl rfl)
theorem dX4_many_45 : decode cX4_many 45 = .ok (.iaload, 1) := dk_46 (dk_at dksX4_many_1 22 rfl rfl)
theorem dX4_many_46 : decode cX4_many 46 = .ok (.iload_n 1, 1) := dk_27 (dk_at dksX4_many_1 23 rfl rfl)
theorem dX4_many_47 : decode cX4_many 47 = .ok (.if_icmp .ne 7, 3) := dk_160 0 7 (dk_at dksX4_many_2 0 rfl rfl)
theorem dX4_many_50 : decode cX4_many 50 = .ok (.iconst 1, 1) := dk_4 (dk_at dksX4_many_2 3 rfl rfl)
theorem dX4_many_51 : decode cX4_many 51 = .ok (.goto 4, 3) := dk_167 0 4 (dk_at dksX4_many_2 4 rfl rfl)
theorem dX4_many_54 : decode cX4_many 54 = .ok (.iconst 0, 1) := dk_3 (dk_at dksX4_many_2 7 rfl rfl)
theorem dX4_many_55 : decode cX4_many 55 = .ok (.iadd, 1) := dk_96 (dk_at dksX4_many_2 8 rfl rfl)
theorem dX4_many_56 : decode cX4_many 56 = .ok (.istore_n 3, 1) := dk_62 (dk_at dksX4_many_2 9 rfl rfl)
theorem dX4_many_57 : decode cX4_many 57 = .ok (.iinc 5 1, 3) := dk_132 5 1 (dk_at dksX4_many_2 10 rfl rfl)
theorem dX4_many_60 : decode cX4_many 60 = .ok (.goto (-46), 3) := dk_167 255 210 (dk_at dksX4_many_2 13 rfl rfl)
theorem dX4_many_63 : decode cX4_many 63 = .ok (.iinc 4 1, 3) := dk_132 4 1 (dk_at dksX4_many_2 16 rfl rfl)
theorem dX4_many_66 : decode cX4_many 66 = .ok (.goto (-61), 3) := dk_167 255 195 (dk_at dksX4_many_2 19 rfl rfl)
theorem dX4_many_69 : decode cX4_many 69 = .ok (.iload_n 3, 1) := dk_29 (dk_at dksX4_many_2 22 rfl rfl)
theorem dX4_many_70 : decode cX4_many 70 = .ok (.ireturn, 1) := dk_172 (dk_at dksX4_many_2 23 rfl rfl)
abbrev cX4_copies : ByteArray := prog_21_method_24_code
def yX4_copies : MethodName := ⟨RX4, "copies", "(II)V"⟩
def dkwX4_copies_4 : List UInt8 := [42, 180, 0, 19, 16, 12, 27, 104, 29, 96, 46, 79, 132, 3, 1, 167, 255, 159, 177]
abbrev dktX4_copies_4 : List UInt8 := dkwX4_copies_4 ++ []
def dkwX4_copies_3 : List UInt8 := [29, 96, 42, 180, 0, 16, 16, 12, 27, 104, 29, 96, 46, 79, 42, 180, 0, 19, 16, 12, 28, 104, 29, 96]
abbrev dktX4_copies_3 : List UInt8 := dkwX4_copies_3 ++ dktX4_copies_4
def dkwX4_copies_2 : List UInt8 := [28, 104, 29, 96, 42, 180, 0, 13, 16, 12, 27, 104, 29, 96, 46, 79, 42, 180, 0, 16, 16, 12, 28, 104]
abbrev dktX4_copies_2 : List UInt8 := dkwX4_copies_2 ++ dktX4_copies_3
def dkwX4_copies_1 : List UInt8 := [16, 12, 28, 104, 29, 96, 42, 180, 0, 7, 16, 12, 27, 104, 29, 96, 46, 79, 42, 180, 0, 13, 16, 12]
abbrev dktX4_copies_1 : List UInt8 := dkwX4_copies_1 ++ dktX4_copies_2
def dkwX4_copies_0 : List UInt8 := [42, 180, 0, 22, 28, 42, 180, 0, 22, 27, 46, 79, 3, 62, 29, 16, 12, 162, 0, 97, 42, 180, 0, 7]
abbrev dktX4_copies_0 : List UInt8 := dkwX4_copies_0 ++ dktX4_copies_1
theorem dksX4_copies_0 : cX4_copies.data.toList.drop 0 = dktX4_copies_0 := by decide +kernel
theorem dksX4_copies_1 : cX4_copies.data.toList.drop 24 = dktX4_copies_1 := dk_seg dksX4_copies_0 24 rfl rfl
theorem dksX4_copies_2 : cX4_copies.data.toList.drop 48 = dktX4_copies_2 := dk_seg dksX4_copies_1 24 rfl rfl
theorem dksX4_copies_3 : cX4_copies.data.toList.drop 72 = dktX4_copies_3 := dk_seg dksX4_copies_2 24 rfl rfl
theorem dksX4_copies_4 : cX4_copies.data.toList.drop 96 = dktX4_copies_4 := dk_seg dksX4_copies_3 24 rfl rfl
theorem dX4_copies_0 : decode cX4_copies 0 = .ok (.aload_n 0, 1) := dk_42 (dk_at dksX4_copies_0 0 rfl rfl)
theorem dX4_copies_1 : decode cX4_copies 1 = .ok (.getfield 22, 3) := dk_180 0 22 (dk_at dksX4_copies_0 1 rfl rfl)
theorem dX4_copies_4 : decode cX4_copies 4 = .ok (.iload_n 2, 1) := dk_28 (dk_at dksX4_copies_0 4 rfl rfl)
theorem dX4_copies_5 : decode cX4_copies 5 = .ok (.aload_n 0, 1) := dk_42 (dk_at dksX4_copies_0 5 rfl rfl)
theorem dX4_copies_6 : decode cX4_copies 6 = .ok (.getfield 22, 3) := dk_180 0 22 (dk_at dksX4_copies_0 6 rfl rfl)
theorem dX4_copies_9 : decode cX4_copies 9 = .ok (.iload_n 1, 1) := dk_27 (dk_at dksX4_copies_0 9 rfl rfl)
theorem dX4_copies_10 : decode cX4_copies 10 = .ok (.iaload, 1) := dk_46 (dk_at dksX4_copies_0 10 rfl rfl)
theorem dX4_copies_11 : decode cX4_copies 11 = .ok (.iastore, 1) := dk_79 (dk_at dksX4_copies_0 11 rfl rfl)
theorem dX4_copies_12 : decode cX4_copies 12 = .ok (.iconst 0, 1) := dk_3 (dk_at dksX4_copies_0 12 rfl rfl)
theorem dX4_copies_13 : decode cX4_copies 13 = .ok (.istore_n 3, 1) := dk_62 (dk_at dksX4_copies_0 13 rfl rfl)
theorem dX4_copies_14 : decode cX4_copies 14 = .ok (.iload_n 3, 1) := dk_29 (dk_at dksX4_copies_0 14 rfl rfl)
theorem dX4_copies_15 : decode cX4_copies 15 = .ok (.bipush 12, 2) := dk_16 12 (dk_at dksX4_copies_0 15 rfl rfl)
theorem dX4_copies_17 : decode cX4_copies 17 = .ok (.if_icmp .ge 97, 3) := dk_162 0 97 (dk_at dksX4_copies_0 17 rfl rfl)
theorem dX4_copies_20 : decode cX4_copies 20 = .ok (.aload_n 0, 1) := dk_42 (dk_at dksX4_copies_0 20 rfl rfl)
theorem dX4_copies_21 : decode cX4_copies 21 = .ok (.getfield 7, 3) := dk_180 0 7 (dk_at dksX4_copies_0 21 rfl rfl)
theorem dX4_copies_24 : decode cX4_copies 24 = .ok (.bipush 12, 2) := dk_16 12 (dk_at dksX4_copies_1 0 rfl rfl)
theorem dX4_copies_26 : decode cX4_copies 26 = .ok (.iload_n 2, 1) := dk_28 (dk_at dksX4_copies_1 2 rfl rfl)
theorem dX4_copies_27 : decode cX4_copies 27 = .ok (.imul, 1) := dk_104 (dk_at dksX4_copies_1 3 rfl rfl)
theorem dX4_copies_28 : decode cX4_copies 28 = .ok (.iload_n 3, 1) := dk_29 (dk_at dksX4_copies_1 4 rfl rfl)
theorem dX4_copies_29 : decode cX4_copies 29 = .ok (.iadd, 1) := dk_96 (dk_at dksX4_copies_1 5 rfl rfl)
theorem dX4_copies_30 : decode cX4_copies 30 = .ok (.aload_n 0, 1) := dk_42 (dk_at dksX4_copies_1 6 rfl rfl)
theorem dX4_copies_31 : decode cX4_copies 31 = .ok (.getfield 7, 3) := dk_180 0 7 (dk_at dksX4_copies_1 7 rfl rfl)
theorem dX4_copies_34 : decode cX4_copies 34 = .ok (.bipush 12, 2) := dk_16 12 (dk_at dksX4_copies_1 10 rfl rfl)
theorem dX4_copies_36 : decode cX4_copies 36 = .ok (.iload_n 1, 1) := dk_27 (dk_at dksX4_copies_1 12 rfl rfl)
theorem dX4_copies_37 : decode cX4_copies 37 = .ok (.imul, 1) := dk_104 (dk_at dksX4_copies_1 13 rfl rfl)
theorem dX4_copies_38 : decode cX4_copies 38 = .ok (.iload_n 3, 1) := dk_29 (dk_at dksX4_copies_1 14 rfl rfl)
theorem dX4_copies_39 : decode cX4_copies 39 = .ok (.iadd, 1) := dk_96 (dk_at dksX4_copies_1 15 rfl rfl)
theorem dX4_copies_40 : decode cX4_copies 40 = .ok (.iaload, 1) := dk_46 (dk_at dksX4_copies_1 16 rfl rfl)
theorem dX4_copies_41 : decode cX4_copies 41 = .ok (.iastore, 1) := dk_79 (dk_at dksX4_copies_1 17 rfl rfl)
theorem dX4_copies_42 : decode cX4_copies 42 = .ok (.aload_n 0, 1) := dk_42 (dk_at dksX4_copies_1 18 rfl rfl)
theorem dX4_copies_43 : decode cX4_copies 43 = .ok (.getfield 13, 3) := dk_180 0 13 (dk_at dksX4_copies_1 19 rfl rfl)
theorem dX4_copies_46 : decode cX4_copies 46 = .ok (.bipush 12, 2) := dk_16 12 (dk_at dksX4_copies_1 22 rfl rfl)
theorem dX4_copies_48 : decode cX4_copies 48 = .ok (.iload_n 2, 1) := dk_28 (dk_at dksX4_copies_2 0 rfl rfl)
theorem dX4_copies_49 : decode cX4_copies 49 = .ok (.imul, 1) := dk_104 (dk_at dksX4_copies_2 1 rfl rfl)
theorem dX4_copies_50 : decode cX4_copies 50 = .ok (.iload_n 3, 1) := dk_29 (dk_at dksX4_copies_2 2 rfl rfl)
theorem dX4_copies_51 : decode cX4_copies 51 = .ok (.iadd, 1) := dk_96 (dk_at dksX4_copies_2 3 rfl rfl)
theorem dX4_copies_52 : decode cX4_copies 52 = .ok (.aload_n 0, 1) := dk_42 (dk_at dksX4_copies_2 4 rfl rfl)
theorem dX4_copies_53 : decode cX4_copies 53 = .ok (.getfield 13, 3) := dk_180 0 13 (dk_at dksX4_copies_2 5 rfl rfl)
theorem dX4_copies_56 : decode cX4_copies 56 = .ok (.bipush 12, 2) := dk_16 12 (dk_at dksX4_copies_2 8 rfl rfl)
theorem dX4_copies_58 : decode cX4_copies 58 = .ok (.iload_n 1, 1) := dk_27 (dk_at dksX4_copies_2 10 rfl rfl)
theorem dX4_copies_59 : decode cX4_copies 59 = .ok (.imul, 1) := dk_104 (dk_at dksX4_copies_2 11 rfl rfl)
theorem dX4_copies_60 : decode cX4_copies 60 = .ok (.iload_n 3, 1) := dk_29 (dk_at dksX4_copies_2 12 rfl rfl)
theorem dX4_copies_61 : decode cX4_copies 61 = .ok (.iadd, 1) := dk_96 (dk_at dksX4_copies_2 13 rfl rfl)
theorem dX4_copies_62 : decode cX4_copies 62 = .ok (.iaload, 1) := dk_46 (dk_at dksX4_copies_2 14 rfl rfl)
theorem dX4_copies_63 : decode cX4_copies 63 = .ok (.iastore, 1) := dk_79 (dk_at dksX4_copies_2 15 rfl rfl)
theorem dX4_copies_64 : decode cX4_copies 64 = .ok (.aload_n 0, 1) := dk_42 (dk_at dksX4_copies_2 16 rfl rfl)
theorem dX4_copies_65 : decode cX4_copies 65 = .ok (.getfield 16, 3) := dk_180 0 16 (dk_at dksX4_copies_2 17 rfl rfl)
theorem dX4_copies_68 : decode cX4_copies 68 = .ok (.bipush 12, 2) := dk_16 12 (dk_at dksX4_copies_2 20 rfl rfl)
theorem dX4_copies_70 : decode cX4_copies 70 = .ok (.iload_n 2, 1) := dk_28 (dk_at dksX4_copies_2 22 rfl rfl)
theorem dX4_copies_71 : decode cX4_copies 71 = .ok (.imul, 1) := dk_104 (dk_at dksX4_copies_2 23 rfl rfl)
theorem dX4_copies_72 : decode cX4_copies 72 = .ok (.iload_n 3, 1) := dk_29 (dk_at dksX4_copies_3 0 rfl rfl)
theorem dX4_copies_73 : decode cX4_copies 73 = .ok (.iadd, 1) := dk_96 (dk_at dksX4_copies_3 1 rfl rfl)
theorem dX4_copies_74 : decode cX4_copies 74 = .ok (.aload_n 0, 1) := dk_42 (dk_at dksX4_copies_3 2 rfl rfl)
theorem dX4_copies_75 : decode cX4_copies 75 = .ok (.getfield 16, 3) := dk_180 0 16 (dk_at dksX4_copies_3 3 rfl rfl)
theorem dX4_copies_78 : decode cX4_copies 78 = .ok (.bipush 12, 2) := dk_16 12 (dk_at dksX4_copies_3 6 rfl rfl)
theorem dX4_copies_80 : decode cX4_copies 80 = .ok (.iload_n 1, 1) := dk_27 (dk_at dksX4_copies_3 8 rfl rfl)
theorem dX4_copies_81 : decode cX4_copies 81 = .ok (.imul, 1) := dk_104 (dk_at dksX4_copies_3 9 rfl rfl)
theorem dX4_copies_82 : decode cX4_copies 82 = .ok (.iload_n 3, 1) := dk_29 (dk_at dksX4_copies_3 10 rfl rfl)
theorem dX4_copies_83 : decode cX4_copies 83 = .ok (.iadd, 1) := dk_96 (dk_at dksX4_copies_3 11 rfl rfl)
theorem dX4_copies_84 : decode cX4_copies 84 = .ok (.iaload, 1) := dk_46 (dk_at dksX4_copies_3 12 rfl rfl)
theorem dX4_copies_85 : decode cX4_copies 85 = .ok (.iastore, 1) := dk_79 (dk_at dksX4_copies_3 13 rfl rfl)
theorem dX4_copies_86 : decode cX4_copies 86 = .ok (.aload_n 0, 1) := dk_42 (dk_at dksX4_copies_3 14 rfl rfl)
theorem dX4_copies_87 : decode cX4_copies 87 = .ok (.getfield 19, 3) := dk_180 0 19 (dk_at dksX4_copies_3 15 rfl rfl)
theorem dX4_copies_90 : decode cX4_copies 90 = .ok (.bipush 12, 2) := dk_16 12 (dk_at dksX4_copies_3 18 rfl rfl)
theorem dX4_copies_92 : decode cX4_copies 92 = .ok (.iload_n 2, 1) := dk_28 (dk_at dksX4_copies_3 20 rfl rfl)
theorem dX4_copies_93 : decode cX4_copies 93 = .ok (.imul, 1) := dk_104 (dk_at dksX4_copies_3 21 rfl rfl)
theorem dX4_copies_94 : decode cX4_copies 94 = .ok (.iload_n 3, 1) := dk_29 (dk_at dksX4_copies_3 22 rfl rfl)
theorem dX4_copies_95 : decode cX4_copies 95 = .ok (.iadd, 1) := dk_96 (dk_at dksX4_copies_3 23 rfl rfl)
theorem dX4_copies_96 : decode cX4_copies 96 = .ok (.aload_n 0, 1) := dk_42 (dk_at dksX4_copies_4 0 rfl rfl)
theorem dX4_copies_97 : decode cX4_copies 97 = .ok (.getfield 19, 3) := dk_180 0 19 (dk_at dksX4_copies_4 1 rfl rfl)
theorem dX4_copies_100 : decode cX4_copies 100 = .ok (.bipush 12, 2) := dk_16 12 (dk_at dksX4_copies_4 4 rfl rfl)
theorem dX4_copies_102 : decode cX4_copies 102 = .ok (.iload_n 1, 1) := dk_27 (dk_at dksX4_copies_4 6 rfl rfl)
theorem dX4_copies_103 : decode cX4_copies 103 = .ok (.imul, 1) := dk_104 (dk_at dksX4_copies_4 7 rfl rfl)
theorem dX4_copies_104 : decode cX4_copies 104 = .ok (.iload_n 3, 1) := dk_29 (dk_at dksX4_copies_4 8 rfl rfl)
theorem dX4_copies_105 : decode cX4_copies 105 = .ok (.iadd, 1) := dk_96 (dk_at dksX4_copies_4 9 rfl rfl)
theorem dX4_copies_106 : decode cX4_copies 106 = .ok (.iaload, 1) := dk_46 (dk_at dksX4_copies_4 10 rfl rfl)
theorem dX4_copies_107 : decode cX4_copies 107 = .ok (.iastore, 1) := dk_79 (dk_at dksX4_copies_4 11 rfl rfl)
theorem dX4_copies_108 : decode cX4_copies 108 = .ok (.iinc 3 1, 3) := dk_132 3 1 (dk_at dksX4_copies_4 12 rfl rfl)
theorem dX4_copies_111 : decode cX4_copies 111 = .ok (.goto (-97), 3) := dk_167 255 159 (dk_at dksX4_copies_4 15 rfl rfl)
theorem dX4_copies_114 : decode cX4_copies 114 = .ok (.return_, 1) := dk_177 (dk_at dksX4_copies_4 18 rfl rfl)
abbrev cX4_forgets : ByteArray := prog_21_method_87_code
def yX4_forgets : MethodName := ⟨RX4, "forgets", "()V"⟩
def dkwX4_forgets_1 : List UInt8 := [181, 1, 57, 42, 3, 181, 1, 60, 177]
abbrev dktX4_forgets_1 : List UInt8 := dkwX4_forgets_1 ++ []
def dkwX4_forgets_0 : List UInt8 := [3, 60, 27, 16, 44, 162, 0, 16, 42, 180, 0, 78, 27, 9, 80, 132, 1, 1, 167, 255, 240, 42, 3]
abbrev dktX4_forgets_0 : List UInt8 := dkwX4_forgets_0 ++ dktX4_forgets_1
theorem dksX4_forgets_0 : cX4_forgets.data.toList.drop 0 = dktX4_forgets_0 := by decide +kernel
theorem dksX4_forgets_1 : cX4_forgets.data.toList.drop 23 = dktX4_forgets_1 := dk_seg dksX4_forgets_0 23 rfl rfl
theorem dX4_forgets_0 : decode cX4_forgets 0 = .ok (.iconst 0, 1) := dk_3 (dk_at dksX4_forgets_0 0 rfl rfl)
theorem dX4_forgets_1 : decode cX4_forgets 1 = .ok (.istore_n 1, 1) := dk_60 (dk_at dksX4_forgets_0 1 rfl rfl)
theorem dX4_forgets_2 : decode cX4_forgets 2 = .ok (.iload_n 1, 1) := dk_27 (dk_at dksX4_forgets_0 2 rfl rfl)
theorem dX4_forgets_3 : decode cX4_forgets 3 = .ok (.bipush 44, 2) := dk_16 44 (dk_at dksX4_forgets_0 3 rfl rfl)
theorem dX4_forgets_5 : decode cX4_forgets 5 = .ok (.if_icmp .ge 16, 3) := dk_162 0 16 (dk_at dksX4_forgets_0 5 rfl rfl)
theorem dX4_forgets_8 : decode cX4_forgets 8 = .ok (.aload_n 0, 1) := dk_42 (dk_at dksX4_forgets_0 8 rfl rfl)
theorem dX4_forgets_9 : decode cX4_forgets 9 = .ok (.getfield 78, 3) := dk_180 0 78 (dk_at dksX4_forgets_0 9 rfl rfl)
theorem dX4_forgets_12 : decode cX4_forgets 12 = .ok (.iload_n 1, 1) := dk_27 (dk_at dksX4_forgets_0 12 rfl rfl)
theorem dX4_forgets_13 : decode cX4_forgets 13 = .ok (.lconst 0, 1) := dk_9 (dk_at dksX4_forgets_0 13 rfl rfl)
theorem dX4_forgets_14 : decode cX4_forgets 14 = .ok (.lastore, 1) := dk_80 (dk_at dksX4_forgets_0 14 rfl rfl)
theorem dX4_forgets_15 : decode cX4_forgets 15 = .ok (.iinc 1 1, 3) := dk_132 1 1 (dk_at dksX4_forgets_0 15 rfl rfl)
theorem dX4_forgets_18 : decode cX4_forgets 18 = .ok (.goto (-16), 3) := dk_167 255 240 (dk_at dksX4_forgets_0 18 rfl rfl)
theorem dX4_forgets_21 : decode cX4_forgets 21 = .ok (.aload_n 0, 1) := dk_42 (dk_at dksX4_forgets_0 21 rfl rfl)
theorem dX4_forgets_22 : decode cX4_forgets 22 = .ok (.iconst 0, 1) := dk_3 (dk_at dksX4_forgets_0 22 rfl rfl)
theorem dX4_forgets_23 : decode cX4_forgets 23 = .ok (.putfield 313, 3) := dk_181 1 57 (dk_at dksX4_forgets_1 0 rfl rfl)
theorem dX4_forgets_26 : decode cX4_forgets 26 = .ok (.aload_n 0, 1) := dk_42 (dk_at dksX4_forgets_1 3 rfl rfl)
theorem dX4_forgets_27 : decode cX4_forgets 27 = .ok (.iconst 0, 1) := dk_3 (dk_at dksX4_forgets_1 4 rfl rfl)
theorem dX4_forgets_28 : decode cX4_forgets 28 = .ok (.putfield 316, 3) := dk_181 1 60 (dk_at dksX4_forgets_1 5 rfl rfl)
theorem dX4_forgets_31 : decode cX4_forgets 31 = .ok (.return_, 1) := dk_177 (dk_at dksX4_forgets_1 8 rfl rfl)
abbrev cX4_faultPosition : ByteArray := prog_21_method_26_code
def yX4_faultPosition : MethodName := ⟨RX4, "faultPosition", "()I"⟩
def dkwX4_faultPosition_0 : List UInt8 := [42, 3, 181, 0, 84, 42, 180, 0, 28, 172]
abbrev dktX4_faultPosition_0 : List UInt8 := dkwX4_faultPosition_0 ++ []
theorem dksX4_faultPosition_0 : cX4_faultPosition.data.toList.drop 0 = dktX4_faultPosition_0 := by decide +kernel
theorem dX4_faultPosition_0 : decode cX4_faultPosition 0 = .ok (.aload_n 0, 1) := dk_42 (dk_at dksX4_faultPosition_0 0 rfl rfl)
theorem dX4_faultPosition_1 : decode cX4_faultPosition 1 = .ok (.iconst 0, 1) := dk_3 (dk_at dksX4_faultPosition_0 1 rfl rfl)
theorem dX4_faultPosition_2 : decode cX4_faultPosition 2 = .ok (.putfield 84, 3) := dk_181 0 84 (dk_at dksX4_faultPosition_0 2 rfl rfl)
theorem dX4_faultPosition_5 : decode cX4_faultPosition 5 = .ok (.aload_n 0, 1) := dk_42 (dk_at dksX4_faultPosition_0 5 rfl rfl)
theorem dX4_faultPosition_6 : decode cX4_faultPosition 6 = .ok (.getfield 28, 3) := dk_180 0 28 (dk_at dksX4_faultPosition_0 6 rfl rfl)
theorem dX4_faultPosition_9 : decode cX4_faultPosition 9 = .ok (.ireturn, 1) := dk_172 (dk_at dksX4_faultPosition_0 9 rfl rfl)
abbrev cX4_statementCount : ByteArray := prog_21_method_27_code
def yX4_statementCount : MethodName := ⟨RX4, "statementCount", "()I"⟩
def dkwX4_statementCount_0 : List UInt8 := [42, 3, 181, 0, 84, 42, 182, 0, 162, 172]
abbrev dktX4_statementCount_0 : List UInt8 := dkwX4_statementCount_0 ++ []
theorem dksX4_statementCount_0 : cX4_statementCount.data.toList.drop 0 = dktX4_statementCount_0 := by decide +kernel
theorem dX4_statementCount_0 : decode cX4_statementCount 0 = .ok (.aload_n 0, 1) := dk_42 (dk_at dksX4_statementCount_0 0 rfl rfl)
theorem dX4_statementCount_1 : decode cX4_statementCount 1 = .ok (.iconst 0, 1) := dk_3 (dk_at dksX4_statementCount_0 1 rfl rfl)
theorem dX4_statementCount_2 : decode cX4_statementCount 2 = .ok (.putfield 84, 3) := dk_181 0 84 (dk_at dksX4_statementCount_0 2 rfl rfl)
theorem dX4_statementCount_5 : decode cX4_statementCount 5 = .ok (.aload_n 0, 1) := dk_42 (dk_at dksX4_statementCount_0 5 rfl rfl)
theorem dX4_statementCount_6 : decode cX4_statementCount 6 = .ok (.invokevirtual 162, 3) := dk_182 0 162 (dk_at dksX4_statementCount_0 6 rfl rfl)
theorem dX4_statementCount_9 : decode cX4_statementCount 9 = .ok (.ireturn, 1) := dk_172 (dk_at dksX4_statementCount_0 9 rfl rfl)
abbrev cX4_statements : ByteArray := prog_21_method_9_code
def yX4_statements : MethodName := ⟨RX4, "statements", "()I"⟩
def dkwX4_statements_1 : List UInt8 := [6, 46, 96, 172]
abbrev dktX4_statements_1 : List UInt8 := dkwX4_statements_1 ++ []
def dkwX4_statements_0 : List UInt8 := [42, 180, 0, 22, 3, 46, 42, 180, 0, 22, 4, 46, 96, 42, 180, 0, 22, 5, 46, 96, 42, 180, 0, 22]
abbrev dktX4_statements_0 : List UInt8 := dkwX4_statements_0 ++ dktX4_statements_1
theorem dksX4_statements_0 : cX4_statements.data.toList.drop 0 = dktX4_statements_0 := by decide +kernel
theorem dksX4_statements_1 : cX4_statements.data.toList.drop 24 = dktX4_statements_1 := dk_seg dksX4_statements_0 24 rfl rfl
theorem dX4_statements_0 : decode cX4_statements 0 = .ok (.aload_n 0, 1) := dk_42 (dk_at dksX4_statements_0 0 rfl rfl)
theorem dX4_statements_1 : decode cX4_statements 1 = .ok (.getfield 22, 3) := dk_180 0 22 (dk_at dksX4_statements_0 1 rfl rfl)
theorem dX4_statements_4 : decode cX4_statements 4 = .ok (.iconst 0, 1) := dk_3 (dk_at dksX4_statements_0 4 rfl rfl)
theorem dX4_statements_5 : decode cX4_statements 5 = .ok (.iaload, 1) := dk_46 (dk_at dksX4_statements_0 5 rfl rfl)
theorem dX4_statements_6 : decode cX4_statements 6 = .ok (.aload_n 0, 1) := dk_42 (dk_at dksX4_statements_0 6 rfl rfl)
theorem dX4_statements_7 : decode cX4_statements 7 = .ok (.getfield 22, 3) := dk_180 0 22 (dk_at dksX4_statements_0 7 rfl rfl)
theorem dX4_statements_10 : decode cX4_statements 10 = .ok (.iconst 1, 1) := dk_4 (dk_at dksX4_statements_0 10 rfl rfl)
theorem dX4_statements_11 : decode cX4_statements 11 = .ok (.iaload, 1) := dk_46 (dk_at dksX4_statements_0 11 rfl rfl)
theorem dX4_statements_12 : decode cX4_statements 12 = .ok (.iadd, 1) := dk_96 (dk_at dksX4_statements_0 12 rfl rfl)
theorem dX4_statements_13 : decode cX4_statements 13 = .ok (.aload_n 0, 1) := dk_42 (dk_at dksX4_statements_0 13 rfl rfl)
theorem dX4_statements_14 : decode cX4_statements 14 = .ok (.getfield 22, 3) := dk_180 0 22 (dk_at dksX4_statements_0 14 rfl rfl)
theorem dX4_statements_17 : decode cX4_statements 17 = .ok (.iconst 2, 1) := dk_5 (dk_at dksX4_statements_0 17 rfl rfl)
theorem dX4_statements_18 : decode cX4_statements 18 = .ok (.iaload, 1) := dk_46 (dk_at dksX4_statements_0 18 rfl rfl)
theorem dX4_statements_19 : decode cX4_statements 19 = .ok (.iadd, 1) := dk_96 (dk_at dksX4_statements_0 19 rfl rfl)
theorem dX4_statements_20 : decode cX4_statements 20 = .ok (.aload_n 0, 1) := dk_42 (dk_at dksX4_statements_0 20 rfl rfl)
theorem dX4_statements_21 : decode cX4_statements 21 = .ok (.getfield 22, 3) := dk_180 0 22 (dk_at dksX4_statements_0 21 rfl rfl)
theorem dX4_statements_24 : decode cX4_statements 24 = .ok (.iconst 3, 1) := dk_6 (dk_at dksX4_statements_1 0 rfl rfl)
theorem dX4_statements_25 : decode cX4_statements 25 = .ok (.iaload, 1) := dk_46 (dk_at dksX4_statements_1 1 rfl rfl)
theorem dX4_statements_26 : decode cX4_statements 26 = .ok (.iadd, 1) := dk_96 (dk_at dksX4_statements_1 2 rfl rfl)
theorem dX4_statements_27 : decode cX4_statements 27 = .ok (.ireturn, 1) := dk_172 (dk_at dksX4_statements_1 3 rfl rfl)
abbrev cX4_kind : ByteArray := prog_21_method_29_code
def yX4_kind : MethodName := ⟨RX4, "kind", "(I)I"⟩
def dkwX4_kind_1 : List UInt8 := [27, 182, 0, 91, 46, 172]
abbrev dktX4_kind_1 : List UInt8 := dkwX4_kind_1 ++ []
def dkwX4_kind_0 : List UInt8 := [42, 27, 182, 0, 165, 154, 0, 9, 42, 4, 182, 0, 98, 172, 42, 3, 181, 0, 84, 42, 180, 0, 7, 42]
abbrev dktX4_kind_0 : List UInt8 := dkwX4_kind_0 ++ dktX4_kind_1
theorem dksX4_kind_0 : cX4_kind.data.toList.drop 0 = dktX4_kind_0 := by decide +kernel
theorem dksX4_kind_1 : cX4_kind.data.toList.drop 24 = dktX4_kind_1 := dk_seg dksX4_kind_0 24 rfl rfl
theorem dX4_kind_0 : decode cX4_kind 0 = .ok (.aload_n 0, 1) := dk_42 (dk_at dksX4_kind_0 0 rfl rfl)
theorem dX4_kind_1 : decode cX4_kind 1 = .ok (.iload_n 1, 1) := dk_27 (dk_at dksX4_kind_0 1 rfl rfl)
theorem dX4_kind_2 : decode cX4_kind 2 = .ok (.invokevirtual 165, 3) := dk_182 0 165 (dk_at dksX4_kind_0 2 rfl rfl)
theorem dX4_kind_5 : decode cX4_kind 5 = .ok (.ifCond .ne 9, 3) := dk_154 0 9 (dk_at dksX4_kind_0 5 rfl rfl)
theorem dX4_kind_8 : decode cX4_kind 8 = .ok (.aload_n 0, 1) := dk_42 (dk_at dksX4_kind_0 8 rfl rfl)
theorem dX4_kind_9 : decode cX4_kind 9 = .ok (.iconst 1, 1) := dk_4 (dk_at dksX4_kind_0 9 rfl rfl)
theorem dX4_kind_10 : decode cX4_kind 10 = .ok (.invokevirtual 98, 3) := dk_182 0 98 (dk_at dksX4_kind_0 10 rfl rfl)
theorem dX4_kind_13 : decode cX4_kind 13 = .ok (.ireturn, 1) := dk_172 (dk_at dksX4_kind_0 13 rfl rfl)
theorem dX4_kind_14 : decode cX4_kind 14 = .ok (.aload_n 0, 1) := dk_42 (dk_at dksX4_kind_0 14 rfl rfl)
theorem dX4_kind_15 : decode cX4_kind 15 = .ok (.iconst 0, 1) := dk_3 (dk_at dksX4_kind_0 15 rfl rfl)
theorem dX4_kind_16 : decode cX4_kind 16 = .ok (.putfield 84, 3) := dk_181 0 84 (dk_at dksX4_kind_0 16 rfl rfl)
theorem dX4_kind_19 : decode cX4_kind 19 = .ok (.aload_n 0, 1) := dk_42 (dk_at dksX4_kind_0 19 rfl rfl)
theorem dX4_kind_20 : decode cX4_kind 20 = .ok (.getfield 7, 3) := dk_180 0 7 (dk_at dksX4_kind_0 20 rfl rfl)
theorem dX4_kind_23 : decode cX4_kind 23 = .ok (.aload_n 0, 1) := dk_42 (dk_at dksX4_kind_0 23 rfl rfl)
theorem dX4_kind_24 : decode cX4_kind 24 = .ok (.iload_n 1, 1) := dk_27 (dk_at dksX4_kind_1 0 rfl rfl)
theorem dX4_kind_25 : decode cX4_kind 25 = .ok (.invokevirtual 91, 3) := dk_182 0 91 (dk_at dksX4_kind_1 1 rfl rfl)
theorem dX4_kind_28 : decode cX4_kind 28 = .ok (.iaload, 1) := dk_46 (dk_at dksX4_kind_1 4 rfl rfl)
theorem dX4_kind_29 : decode cX4_kind 29 = .ok (.ireturn, 1) := dk_172 (dk_at dksX4_kind_1 5 rfl rfl)
abbrev cX4_isStatement : ByteArray := prog_21_method_28_code
def yX4_isStatement : MethodName := ⟨RX4, "isStatement", "(I)Z"⟩
def dkwX4_isStatement_0 : List UInt8 := [27, 155, 0, 15, 27, 42, 182, 0, 162, 162, 0, 7, 4, 167, 0, 4, 3, 172]
abbrev dktX4_isStatement_0 : List UInt8 := dkwX4_isStatement_0 ++ []
theorem dksX4_isStatement_0 : cX4_isStatement.data.toList.drop 0 = dktX4_isStatement_0 := by decide +kernel
theorem dX4_isStatement_0 : decode cX4_isStatement 0 = .ok (.iload_n 1, 1) := dk_27 (dk_at dksX4_isStatement_0 0 rfl rfl)
theorem dX4_isStatement_1 : decode cX4_isStatement 1 = .ok (.ifCond .lt 15, 3) := dk_155 0 15 (dk_at dksX4_isStatement_0 1 rfl rfl)
theorem dX4_isStatement_4 : decode cX4_isStatement 4 = .ok (.iload_n 1, 1) := dk_27 (dk_at dksX4_isStatement_0 4 rfl rfl)
theorem dX4_isStatement_5 : decode cX4_isStatement 5 = .ok (.aload_n 0, 1) := dk_42 (dk_at dksX4_isStatement_0 5 rfl rfl)
theorem dX4_isStatement_6 : decode cX4_isStatement 6 = .ok (.invokevirtual 162, 3) := dk_182 0 162 (dk_at dksX4_isStatement_0 6 rfl rfl)
theorem dX4_isStatement_9 : decode cX4_isStatement 9 = .ok (.if_icmp .ge 7, 3) := dk_162 0 7 (dk_at dksX4_isStatement_0 9 rfl rfl)
theorem dX4_isStatement_12 : decode cX4_isStatement 12 = .ok (.iconst 1, 1) := dk_4 (dk_at dksX4_isStatement_0 12 rfl rfl)
theorem dX4_isStatement_13 : decode cX4_isStatement 13 = .ok (.goto 4, 3) := dk_167 0 4 (dk_at dksX4_isStatement_0 13 rfl rfl)
theorem dX4_isStatement_16 : decode cX4_isStatement 16 = .ok (.iconst 0, 1) := dk_3 (dk_at dksX4_isStatement_0 16 rfl rfl)
theorem dX4_isStatement_17 : decode cX4_isStatement 17 = .ok (.ireturn, 1) := dk_172 (dk_at dksX4_isStatement_0 17 rfl rfl)
abbrev cX4_placeOf : ByteArray := prog_21_method_10_code
def yX4_placeOf : MethodName := ⟨RX4, "placeOf", "(I)I"⟩
def dkwX4_placeOf_1 : List UInt8 := [132, 3, 1, 167, 255, 234, 16, 12, 29, 104, 28, 96, 172]
abbrev dktX4_placeOf_1 : List UInt8 := dkwX4_placeOf_1 ++ []
def dkwX4_placeOf_0 : List UInt8 := [27, 61, 3, 62, 28, 42, 180, 0, 22, 29, 46, 161, 0, 18, 28, 42, 180, 0, 22, 29, 46, 100, 61]
abbrev dktX4_placeOf_0 : List UInt8 := dkwX4_placeOf_0 ++ dktX4_placeOf_1
theorem dksX4_placeOf_0 : cX4_placeOf.data.toList.drop 0 = dktX4_placeOf_0 := by decide +kernel
theorem dksX4_placeOf_1 : cX4_placeOf.data.toList.drop 23 = dktX4_placeOf_1 := dk_seg dksX4_placeOf_0 23 rfl rfl
theorem dX4_placeOf_0 : decode cX4_placeOf 0 = .ok (.iload_n 1, 1) := dk_27 (dk_at dksX4_placeOf_0 0 rfl rfl)
theorem dX4_placeOf_1 : decode cX4_placeOf 1 = .ok (.istore_n 2, 1) := dk_61 (dk_at dksX4_placeOf_0 1 rfl rfl)
theorem dX4_placeOf_2 : decode cX4_placeOf 2 = .ok (.iconst 0, 1) := dk_3 (dk_at dksX4_placeOf_0 2 rfl rfl)
theorem dX4_placeOf_3 : decode cX4_placeOf 3 = .ok (.istore_n 3, 1) := dk_62 (dk_at dksX4_placeOf_0 3 rfl rfl)
theorem dX4_placeOf_4 : decode cX4_placeOf 4 = .ok (.iload_n 2, 1) := dk_28 (dk_at dksX4_placeOf_0 4 rfl rfl)
theorem dX4_placeOf_5 : decode cX4_placeOf 5 = .ok (.aload_n 0, 1) := dk_42 (dk_at dksX4_placeOf_0 5 rfl rfl)
theorem dX4_placeOf_6 : decode cX4_placeOf 6 = .ok (.getfield 22, 3) := dk_180 0 22 (dk_at dksX4_placeOf_0 6 rfl rfl)
theorem dX4_placeOf_9 : decode cX4_placeOf 9 = .ok (.iload_n 3, 1) := dk_29 (dk_at dksX4_placeOf_0 9 rfl rfl)
theorem dX4_placeOf_10 : decode cX4_placeOf 10 = .ok (.iaload, 1) := dk_46 (dk_at dksX4_placeOf_0 10 rfl rfl)
theorem dX4_placeOf_11 : decode cX4_placeOf 11 = .ok (.if_icmp .lt 18, 3) := dk_161 0 18 (dk_at dksX4_placeOf_0 11 rfl rfl)
theorem dX4_placeOf_14 : decode cX4_placeOf 14 = .ok (.iload_n 2, 1) := dk_28 (dk_at dksX4_placeOf_0 14 rfl rfl)
theorem dX4_placeOf_15 : decode cX4_placeOf 15 = .ok (.aload_n 0, 1) := dk_42 (dk_at dksX4_placeOf_0 15 rfl rfl)
theorem dX4_placeOf_16 : decode cX4_placeOf 16 = .ok (.getfield 22, 3) := dk_180 0 22 (dk_at dksX4_placeOf_0 16 rfl rfl)
theorem dX4_placeOf_19 : decode cX4_placeOf 19 = .ok (.iload_n 3, 1) := dk_29 (dk_at dksX4_placeOf_0 19 rfl rfl)
theorem dX4_placeOf_20 : decode cX4_placeOf 20 = .ok (.iaload, 1) := dk_46 (dk_at dksX4_placeOf_0 20 rfl rfl)
theorem dX4_placeOf_21 : decode cX4_placeOf 21 = .ok (.isub, 1) := dk_100 (dk_at dksX4_placeOf_0 21 rfl rfl)
theorem dX4_placeOf_22 : decode cX4_placeOf 22 = .ok (.istore_n 2, 1) := dk_61 (dk_at dksX4_placeOf_0 22 rfl rfl)
theorem dX4_placeOf_23 : decode cX4_placeOf 23 = .ok (.iinc 3 1, 3) := dk_132 3 1 (dk_at dksX4_placeOf_1 0 rfl rfl)
theorem dX4_placeOf_26 : decode cX4_placeOf 26 = .ok (.goto (-22), 3) := dk_167 255 234 (dk_at dksX4_placeOf_1 3 rfl rfl)
theorem dX4_placeOf_29 : decode cX4_placeOf 29 = .ok (.bipush 12, 2) := dk_16 12 (dk_at dksX4_placeOf_1 6 rfl rfl)
theorem dX4_placeOf_31 : decode cX4_placeOf 31 = .ok (.iload_n 3, 1) := dk_29 (dk_at dksX4_placeOf_1 8 rfl rfl)
theorem dX4_placeOf_32 : decode cX4_placeOf 32 = .ok (.imul, 1) := dk_104 (dk_at dksX4_placeOf_1 9 rfl rfl)
theorem dX4_placeOf_33 : decode cX4_placeOf 33 = .ok (.iload_n 2, 1) := dk_28 (dk_at dksX4_placeOf_1 10 rfl rfl)
theorem dX4_placeOf_34 : decode cX4_placeOf 34 = .ok (.iadd, 1) := dk_96 (dk_at dksX4_placeOf_1 11 rfl rfl)
theorem dX4_placeOf_35 : decode cX4_placeOf 35 = .ok (.ireturn, 1) := dk_172 (dk_at dksX4_placeOf_1 12 rfl rfl)
abbrev cX4_functionOf : ByteArray := prog_21_method_30_code
def yX4_functionOf : MethodName := ⟨RX4, "functionOf", "(I)I"⟩
def dkwX4_functionOf_1 : List UInt8 := [16, 12, 108, 172]
abbrev dktX4_functionOf_1 : List UInt8 := dkwX4_functionOf_1 ++ []
def dkwX4_functionOf_0 : List UInt8 := [42, 27, 182, 0, 165, 154, 0, 9, 42, 4, 182, 0, 98, 172, 42, 3, 181, 0, 84, 42, 27, 182, 0, 91]
abbrev dktX4_functionOf_0 : List UInt8 := dkwX4_functionOf_0 ++ dktX4_functionOf_1
theorem dksX4_functionOf_0 : cX4_functionOf.data.toList.drop 0 = dktX4_functionOf_0 := by decide +kernel
theorem dksX4_functionOf_1 : cX4_functionOf.data.toList.drop 24 = dktX4_functionOf_1 := dk_seg dksX4_functionOf_0 24 rfl rfl
theorem dX4_functionOf_0 : decode cX4_functionOf 0 = .ok (.aload_n 0, 1) := dk_42 (dk_at dksX4_functionOf_0 0 rfl rfl)
theorem dX4_functionOf_1 : decode cX4_functionOf 1 = .ok (.iload_n 1, 1) := dk_27 (dk_at dksX4_functionOf_0 1 rfl rfl)
theorem dX4_functionOf_2 : decode cX4_functionOf 2 = .ok (.invokevirtual 165, 3) := dk_182 0 165 (dk_at dksX4_functionOf_0 2 rfl rfl)
theorem dX4_functionOf_5 : decode cX4_functionOf 5 = .ok (.ifCond .ne 9, 3) := dk_154 0 9 (dk_at dksX4_functionOf_0 5 rfl rfl)
theorem dX4_functionOf_8 : decode cX4_functionOf 8 = .ok (.aload_n 0, 1) := dk_42 (dk_at dksX4_functionOf_0 8 rfl rfl)
theorem dX4_functionOf_9 : decode cX4_functionOf 9 = .ok (.iconst 1, 1) := dk_4 (dk_at dksX4_functionOf_0 9 rfl rfl)
theorem dX4_functionOf_10 : decode cX4_functionOf 10 = .ok (.invokevirtual 98, 3) := dk_182 0 98 (dk_at dksX4_functionOf_0 10 rfl rfl)
theorem dX4_functionOf_13 : decode cX4_functionOf 13 = .ok (.ireturn, 1) := dk_172 (dk_at dksX4_functionOf_0 13 rfl rfl)
theorem dX4_functionOf_14 : decode cX4_functionOf 14 = .ok (.aload_n 0, 1) := dk_42 (dk_at dksX4_functionOf_0 14 rfl rfl)
theorem dX4_functionOf_15 : decode cX4_functionOf 15 = .ok (.iconst 0, 1) := dk_3 (dk_at dksX4_functionOf_0 15 rfl rfl)
theorem dX4_functionOf_16 : decode cX4_functionOf 16 = .ok (.putfield 84, 3) := dk_181 0 84 (dk_at dksX4_functionOf_0 16 rfl rfl)
theorem dX4_functionOf_19 : decode cX4_functionOf 19 = .ok (.aload_n 0, 1) := dk_42 (dk_at dksX4_functionOf_0 19 rfl rfl)
theorem dX4_functionOf_20 : decode cX4_functionOf 20 = .ok (.iload_n 1, 1) := dk_27 (dk_at dksX4_functionOf_0 20 rfl rfl)
theorem dX4_functionOf_21 : decode cX4_functionOf 21 = .ok (.invokevirtual 91, 3) := dk_182 0 91 (dk_at dksX4_functionOf_0 21 rfl rfl)
theorem dX4_functionOf_24 : decode cX4_functionOf 24 = .ok (.bipush 12, 2) := dk_16 12 (dk_at dksX4_functionOf_1 0 rfl rfl)
theorem dX4_functionOf_26 : decode cX4_functionOf 26 = .ok (.idiv, 1) := dk_108 (dk_at dksX4_functionOf_1 2 rfl rfl)
theorem dX4_functionOf_27 : decode cX4_functionOf 27 = .ok (.ireturn, 1) := dk_172 (dk_at dksX4_functionOf_1 3 rfl rfl)
abbrev cX4_siteCount : ByteArray := prog_21_method_32_code
def yX4_siteCount : MethodName := ⟨RX4, "siteCount", "()I"⟩
def dkwX4_siteCount_0 : List UInt8 := [42, 3, 181, 0, 84, 42, 182, 0, 168, 172]
abbrev dktX4_siteCount_0 : List UInt8 := dkwX4_siteCount_0 ++ []
theorem dksX4_siteCount_0 : cX4_siteCount.data.toList.drop 0 = dktX4_siteCount_0 := by decide +kernel
theorem dX4_siteCount_0 : decode cX4_siteCount 0 = .ok (.aload_n 0, 1) := dk_42 (dk_at dksX4_siteCount_0 0 rfl rfl)
theorem dX4_siteCount_1 : decode cX4_siteCount 1 = .ok (.iconst 0, 1) := dk_3 (dk_at dksX4_siteCount_0 1 rfl rfl)
theorem dX4_siteCount_2 : decode cX4_siteCount 2 = .ok (.putfield 84, 3) := dk_181 0 84 (dk_at dksX4_siteCount_0 2 rfl rfl)
theorem dX4_siteCount_5 : decode cX4_siteCount 5 = .ok (.aload_n 0, 1) := dk_42 (dk_at dksX4_siteCount_0 5 rfl rfl)
theorem dX4_siteCount_6 : decode cX4_siteCount 6 = .ok (.invokevirtual 168, 3) := dk_182 0 168 (dk_at dksX4_siteCount_0 6 rfl rfl)
theorem dX4_siteCount_9 : decode cX4_siteCount 9 = .ok (.ireturn, 1) := dk_172 (dk_at dksX4_siteCount_0 9 rfl rfl)
abbrev cX4_sites : ByteArray := prog_21_method_31_code
def yX4_sites : MethodName := ⟨RX4, "sites", "()I"⟩
def dkwX4_sites_0 : List UInt8 := [42, 7, 2, 182, 0, 147, 172]
abbrev dktX4_sites_0 : List UInt8 := dkwX4_sites_0 ++ []
theorem dksX4_sites_0 : cX4_sites.data.toList.drop 0 = dktX4_sites_0 := by decide +kernel
theorem dX4_sites_0 : decode cX4_sites 0 = .ok (.aload_n 0, 1) := dk_42 (dk_at dksX4_sites_0 0 rfl rfl)
theorem dX4_sites_1 : decode cX4_sites 1 = .ok (.iconst 4, 1) := dk_7 (dk_at dksX4_sites_0 1 rfl rfl)
theorem dX4_sites_2 : decode cX4_sites 2 = .ok (.iconst (-1), 1) := dk_2 (dk_at dksX4_sites_0 2 rfl rfl)
theorem dX4_sites_3 : decode cX4_sites 3 = .ok (.invokevirtual 147, 3) := dk_182 0 147 (dk_at dksX4_sites_0 3 rfl rfl)
theorem dX4_sites_6 : decode cX4_sites 6 = .ok (.ireturn, 1) := dk_172 (dk_at dksX4_sites_0 6 rfl rfl)
abbrev cX4_setLimit : ByteArray := prog_21_method_33_code
def yX4_setLimit : MethodName := ⟨RX4, "setLimit", "(I)I"⟩
def dkwX4_setLimit_1 : List UInt8 := [61, 42, 27, 181, 0, 171, 42, 3, 181, 0, 155, 28, 172]
abbrev dktX4_setLimit_1 : List UInt8 := dkwX4_setLimit_1 ++ []
def dkwX4_setLimit_0 : List UInt8 := [27, 3, 5, 184, 0, 94, 154, 0, 9, 42, 4, 182, 0, 98, 172, 42, 3, 181, 0, 84, 42, 180, 0, 171]
abbrev dktX4_setLimit_0 : List UInt8 := dkwX4_setLimit_0 ++ dktX4_setLimit_1
theorem dksX4_setLimit_0 : cX4_setLimit.data.toList.drop 0 = dktX4_setLimit_0 := by decide +kernel
theorem dksX4_setLimit_1 : cX4_setLimit.data.toList.drop 24 = dktX4_setLimit_1 := dk_seg dksX4_setLimit_0 24 rfl rfl
theorem dX4_setLimit_0 : decode cX4_setLimit 0 = .ok (.iload_n 1, 1) := dk_27 (dk_at dksX4_setLimit_0 0 rfl rfl)
theorem dX4_setLimit_1 : decode cX4_setLimit 1 = .ok (.iconst 0, 1) := dk_3 (dk_at dksX4_setLimit_0 1 rfl rfl)
theorem dX4_setLimit_2 : decode cX4_setLimit 2 = .ok (.iconst 2, 1) := dk_5 (dk_at dksX4_setLimit_0 2 rfl rfl)
theorem dX4_setLimit_3 : decode cX4_setLimit 3 = .ok (.invokestatic 94, 3) := dk_184 0 94 (dk_at dksX4_setLimit_0 3 rfl rfl)
theorem dX4_setLimit_6 : decode cX4_setLimit 6 = .ok (.ifCond .ne 9, 3) := dk_154 0 9 (dk_at dksX4_setLimit_0 6 rfl rfl)
theorem dX4_setLimit_9 : decode cX4_setLimit 9 = .ok (.aload_n 0, 1) := dk_42 (dk_at dksX4_setLimit_0 9 rfl rfl)
theorem dX4_setLimit_10 : decode cX4_setLimit 10 = .ok (.iconst 1, 1) := dk_4 (dk_at dksX4_setLimit_0 10 rfl rfl)
theorem dX4_setLimit_11 : decode cX4_setLimit 11 = .ok (.invokevirtual 98, 3) := dk_182 0 98 (dk_at dksX4_setLimit_0 11 rfl rfl)
theorem dX4_setLimit_14 : decode cX4_setLimit 14 = .ok (.ireturn, 1) := dk_172 (dk_at dksX4_setLimit_0 14 rfl rfl)
theorem dX4_setLimit_15 : decode cX4_setLimit 15 = .ok (.aload_n 0, 1) := dk_42 (dk_at dksX4_setLimit_0 15 rfl rfl)
theorem dX4_setLimit_16 : decode cX4_setLimit 16 = .ok (.iconst 0, 1) := dk_3 (dk_at dksX4_setLimit_0 16 rfl rfl)
theorem dX4_setLimit_17 : decode cX4_setLimit 17 = .ok (.putfield 84, 3) := dk_181 0 84 (dk_at dksX4_setLimit_0 17 rfl rfl)
theorem dX4_setLimit_20 : decode cX4_setLimit 20 = .ok (.aload_n 0, 1) := dk_42 (dk_at dksX4_setLimit_0 20 rfl rfl)
theorem dX4_setLimit_21 : decode cX4_setLimit 21 = .ok (.getfield 171, 3) := dk_180 0 171 (dk_at dksX4_setLimit_0 21 rfl rfl)
theorem dX4_setLimit_24 : decode cX4_setLimit 24 = .ok (.istore_n 2, 1) := dk_61 (dk_at dksX4_setLimit_1 0 rfl rfl)
theorem dX4_setLimit_25 : decode cX4_setLimit 25 = .ok (.aload_n 0, 1) := dk_42 (dk_at dksX4_setLimit_1 1 rfl rfl)
theorem dX4_setLimit_26 : decode cX4_setLimit 26 = .ok (.iload_n 1, 1) := dk_27 (dk_at dksX4_setLimit_1 2 rfl rfl)
theorem dX4_setLimit_27 : decode cX4_setLimit 27 = .ok (.putfield 171, 3) := dk_181 0 171 (dk_at dksX4_setLimit_1 3 rfl rfl)
theorem dX4_setLimit_30 : decode cX4_setLimit 30 = .ok (.aload_n 0, 1) := dk_42 (dk_at dksX4_setLimit_1 6 rfl rfl)
theorem dX4_setLimit_31 : decode cX4_setLimit 31 = .ok (.iconst 0, 1) := dk_3 (dk_at dksX4_setLimit_1 7 rfl rfl)
theorem dX4_setLimit_32 : decode cX4_setLimit 32 = .ok (.putfield 155, 3) := dk_181 0 155 (dk_at dksX4_setLimit_1 8 rfl rfl)
theorem dX4_setLimit_35 : decode cX4_setLimit 35 = .ok (.iload_n 2, 1) := dk_28 (dk_at dksX4_setLimit_1 11 rfl rfl)
theorem dX4_setLimit_36 : decode cX4_setLimit 36 = .ok (.ireturn, 1) := dk_172 (dk_at dksX4_setLimit_1 12 rfl rfl)
abbrev cX4_contextCount : ByteArray := prog_21_method_50_code
def yX4_contextCount : MethodName := ⟨RX4, "contextCount", "(I)I"⟩
def dkwX4_contextCount_1 : List UInt8 := [182, 0, 238, 172]
abbrev dktX4_contextCount_1 : List UInt8 := dkwX4_contextCount_1 ++ []
def dkwX4_contextCount_0 : List UInt8 := [27, 184, 0, 141, 154, 0, 9, 42, 4, 182, 0, 98, 172, 42, 3, 181, 0, 84, 42, 182, 0, 235, 42, 27]
abbrev dktX4_contextCount_0 : List UInt8 := dkwX4_contextCount_0 ++ dktX4_contextCount_1
theorem dksX4_contextCount_0 : cX4_contextCount.data.toList.drop 0 = dktX4_contextCount_0 := by decide +kernel
theorem dksX4_contextCount_1 : cX4_contextCount.data.toList.drop 24 = dktX4_contextCount_1 := dk_seg dksX4_contextCount_0 24 rfl rfl
theorem dX4_contextCount_0 : decode cX4_contextCount 0 = .ok (.iload_n 1, 1) := dk_27 (dk_at dksX4_contextCount_0 0 rfl rfl)
theorem dX4_contextCount_1 : decode cX4_contextCount 1 = .ok (.invokestatic 141, 3) := dk_184 0 141 (dk_at dksX4_contextCount_0 1 rfl rfl)
theorem dX4_contextCount_4 : decode cX4_contextCount 4 = .ok (.ifCond .ne 9, 3) := dk_154 0 9 (dk_at dksX4_contextCount_0 4 rfl rfl)
theorem dX4_contextCount_7 : decode cX4_contextCount 7 = .ok (.aload_n 0, 1) := dk_42 (dk_at dksX4_contextCount_0 7 rfl rfl)
theorem dX4_contextCount_8 : decode cX4_contextCount 8 = .ok (.iconst 1, 1) := dk_4 (dk_at dksX4_contextCount_0 8 rfl rfl)
theorem dX4_contextCount_9 : decode cX4_contextCount 9 = .ok (.invokevirtual 98, 3) := dk_182 0 98 (dk_at dksX4_contextCount_0 9 rfl rfl)
theorem dX4_contextCount_12 : decode cX4_contextCount 12 = .ok (.ireturn, 1) := dk_172 (dk_at dksX4_contextCount_0 12 rfl rfl)
theorem dX4_contextCount_13 : decode cX4_contextCount 13 = .ok (.aload_n 0, 1) := dk_42 (dk_at dksX4_contextCount_0 13 rfl rfl)
theorem dX4_contextCount_14 : decode cX4_contextCount 14 = .ok (.iconst 0, 1) := dk_3 (dk_at dksX4_contextCount_0 14 rfl rfl)
theorem dX4_contextCount_15 : decode cX4_contextCount 15 = .ok (.putfield 84, 3) := dk_181 0 84 (dk_at dksX4_contextCount_0 15 rfl rfl)
theorem dX4_contextCount_18 : decode cX4_contextCount 18 = .ok (.aload_n 0, 1) := dk_42 (dk_at dksX4_contextCount_0 18 rfl rfl)
theorem dX4_contextCount_19 : decode cX4_contextCount 19 = .ok (.invokevirtual 235, 3) := dk_182 0 235 (dk_at dksX4_contextCount_0 19 rfl rfl)
theorem dX4_contextCount_22 : decode cX4_contextCount 22 = .ok (.aload_n 0, 1) := dk_42 (dk_at dksX4_contextCount_0 22 rfl rfl)
theorem dX4_contextCount_23 : decode cX4_contextCount 23 = .ok (.iload_n 1, 1) := dk_27 (dk_at dksX4_contextCount_0 23 rfl rfl)
theorem dX4_contextCount_24 : decode cX4_contextCount 24 = .ok (.invokevirtual 238, 3) := dk_182 0 238 (dk_at dksX4_contextCount_1 0 rfl rfl)
theorem dX4_contextCount_27 : decode cX4_contextCount 27 = .ok (.ireturn, 1) := dk_172 (dk_at dksX4_contextCount_1 3 rfl rfl)
abbrev cX4_refreshes : ByteArray := prog_21_method_47_code
def yX4_refreshes : MethodName := ⟨RX4, "refreshes", "()V"⟩
def dkwX4_refreshes_4 : List UInt8 := [132, 1, 1, 167, 255, 201, 167, 255, 184, 42, 182, 0, 232, 42, 4, 181, 0, 155, 177]
abbrev dktX4_refreshes_4 : List UInt8 := dkwX4_refreshes_4 ++ []
def dkwX4_refreshes_3 : List UInt8 := [180, 0, 38, 16, 12, 28, 104, 29, 96, 27, 42, 180, 0, 171, 182, 0, 222, 132, 3, 1, 167, 255, 224]
abbrev dktX4_refreshes_3 : List UInt8 := dkwX4_refreshes_3 ++ dktX4_refreshes_4
def dkwX4_refreshes_2 : List UInt8 := [162, 0, 53, 42, 180, 0, 32, 27, 46, 61, 3, 62, 29, 42, 180, 0, 22, 28, 46, 162, 0, 28, 42, 42]
abbrev dktX4_refreshes_2 : List UInt8 := dkwX4_refreshes_2 ++ dktX4_refreshes_3
def dkwX4_refreshes_1 : List UInt8 := [42, 4, 181, 0, 191, 42, 180, 0, 191, 153, 0, 71, 42, 3, 181, 0, 191, 3, 60, 27, 42, 180, 0, 174]
abbrev dktX4_refreshes_1 : List UInt8 := dkwX4_refreshes_1 ++ dktX4_refreshes_2
def dkwX4_refreshes_0 : List UInt8 := [42, 180, 0, 155, 153, 0, 4, 177, 42, 182, 0, 229, 42, 42, 180, 0, 171, 182, 0, 212, 42, 182, 0, 216]
abbrev dktX4_refreshes_0 : List UInt8 := dkwX4_refreshes_0 ++ dktX4_refreshes_1
theorem dksX4_refreshes_0 : cX4_refreshes.data.toList.drop 0 = dktX4_refreshes_0 := by decide +kernel
theorem dksX4_refreshes_1 : cX4_refreshes.data.toList.drop 24 = dktX4_refreshes_1 := dk_seg dksX4_refreshes_0 24 rfl rfl
theorem dksX4_refreshes_2 : cX4_refreshes.data.toList.drop 48 = dktX4_refreshes_2 := dk_seg dksX4_refreshes_1 24 rfl rfl
theorem dksX4_refreshes_3 : cX4_refreshes.data.toList.drop 72 = dktX4_refreshes_3 := dk_seg dksX4_refreshes_2 24 rfl rfl
theorem dksX4_refreshes_4 : cX4_refreshes.data.toList.drop 95 = dktX4_refreshes_4 := dk_seg dksX4_refreshes_3 23 rfl rfl
theorem dX4_refreshes_0 : decode cX4_refreshes 0 = .ok (.aload_n 0, 1) := dk_42 (dk_at dksX4_refreshes_0 0 rfl rfl)
theorem dX4_refreshes_1 : decode cX4_refreshes 1 = .ok (.getfield 155, 3) := dk_180 0 155 (dk_at dksX4_refreshes_0 1 rfl rfl)
theorem dX4_refreshes_4 : decode cX4_refreshes 4 = .ok (.ifCond .eq 4, 3) := dk_153 0 4 (dk_at dksX4_refreshes_0 4 rfl rfl)
theorem dX4_refreshes_7 : decode cX4_refreshes 7 = .ok (.return_, 1) := dk_177 (dk_at dksX4_refreshes_0 7 rfl rfl)
theorem dX4_refreshes_8 : decode cX4_refreshes 8 = .ok (.aload_n 0, 1) := dk_42 (dk_at dksX4_refreshes_0 8 rfl rfl)
theorem dX4_refreshes_9 : decode cX4_refreshes 9 = .ok (.invokevirtual 229, 3) := dk_182 0 229 (dk_at dksX4_refreshes_0 9 rfl rfl)
theorem dX4_refreshes_12 : decode cX4_refreshes 12 = .ok (.aload_n 0, 1) := dk_42 (dk_at dksX4_refreshes_0 12 rfl rfl)
theorem dX4_refreshes_13 : decode cX4_refreshes 13 = .ok (.aload_n 0, 1) := dk_42 (dk_at dksX4_refreshes_0 13 rfl rfl)
theorem dX4_refreshes_14 : decode cX4_refreshes 14 = .ok (.getfield 171, 3) := dk_180 0 171 (dk_at dksX4_refreshes_0 14 rfl rfl)
theorem dX4_refreshes_17 : decode cX4_refreshes 17 = .ok (.invokevirtual 212, 3) := dk_182 0 212 (dk_at dksX4_refreshes_0 17 rfl rfl)
theorem dX4_refreshes_20 : decode cX4_refreshes 20 = .ok (.aload_n 0, 1) := dk_42 (dk_at dksX4_refreshes_0 20 rfl rfl)
theorem dX4_refreshes_21 : decode cX4_refreshes 21 = .ok (.invokevirtual 216, 3) := dk_182 0 216 (dk_at dksX4_refreshes_0 21 rfl rfl)
theorem dX4_refreshes_24 : decode cX4_refreshes 24 = .ok (.aload_n 0, 1) := dk_42 (dk_at dksX4_refreshes_1 0 rfl rfl)
theorem dX4_refreshes_25 : decode cX4_refreshes 25 = .ok (.iconst 1, 1) := dk_4 (dk_at dksX4_refreshes_1 1 rfl rfl)
theorem dX4_refreshes_26 : decode cX4_refreshes 26 = .ok (.putfield 191, 3) := dk_181 0 191 (dk_at dksX4_refreshes_1 2 rfl rfl)
theorem dX4_refreshes_29 : decode cX4_refreshes 29 = .ok (.aload_n 0, 1) := dk_42 (dk_at dksX4_refreshes_1 5 rfl rfl)
theorem dX4_refreshes_30 : decode cX4_refreshes 30 = .ok (.getfield 191, 3) := dk_180 0 191 (dk_at dksX4_refreshes_1 6 rfl rfl)
theorem dX4_refreshes_33 : decode cX4_refreshes 33 = .ok (.ifCond .eq 71, 3) := dk_153 0 71 (dk_at dksX4_refreshes_1 9 rfl rfl)
theorem dX4_refreshes_36 : decode cX4_refreshes 36 = .ok (.aload_n 0, 1) := dk_42 (dk_at dksX4_refreshes_1 12 rfl rfl)
theorem dX4_refreshes_37 : decode cX4_refreshes 37 = .ok (.iconst 0, 1) := dk_3 (dk_at dksX4_refreshes_1 13 rfl rfl)
theorem dX4_refreshes_38 : decode cX4_refreshes 38 = .ok (.putfield 191, 3) := dk_181 0 191 (dk_at dksX4_refreshes_1 14 rfl rfl)
theorem dX4_refreshes_41 : decode cX4_refreshes 41 = .ok (.iconst 0, 1) := dk_3 (dk_at dksX4_refreshes_1 17 rfl rfl)
theorem dX4_refreshes_42 : decode cX4_refreshes 42 = .ok (.istore_n 1, 1) := dk_60 (dk_at dksX4_refreshes_1 18 rfl rfl)
theorem dX4_refreshes_43 : decode cX4_refreshes 43 = .ok (.iload_n 1, 1) := dk_27 (dk_at dksX4_refreshes_1 19 rfl rfl)
theorem dX4_refreshes_44 : decode cX4_refreshes 44 = .ok (.aload_n 0, 1) := dk_42 (dk_at dksX4_refreshes_1 20 rfl rfl)
theorem dX4_refreshes_45 : decode cX4_refreshes 45 = .ok (.getfield 174, 3) := dk_180 0 174 (dk_at dksX4_refreshes_1 21 rfl rfl)
theorem dX4_refreshes_48 : decode cX4_refreshes 48 = .ok (.if_icmp .ge 53, 3) := dk_162 0 53 (dk_at dksX4_refreshes_2 0 rfl rfl)
theorem dX4_refreshes_51 : decode cX4_refreshes 51 = .ok (.aload_n 0, 1) := dk_42 (dk_at dksX4_refreshes_2 3 rfl rfl)
theorem dX4_refreshes_52 : decode cX4_refreshes 52 = .ok (.getfield 32, 3) := dk_180 0 32 (dk_at dksX4_refreshes_2 4 rfl rfl)
theorem dX4_refreshes_55 : decode cX4_refreshes 55 = .ok (.iload_n 1, 1) := dk_27 (dk_at dksX4_refreshes_2 7 rfl rfl)
theorem dX4_refreshes_56 : decode cX4_refreshes 56 = .ok (.iaload, 1) := dk_46 (dk_at dksX4_refreshes_2 8 rfl rfl)
theorem dX4_refreshes_57 : decode cX4_refreshes 57 = .ok (.istore_n 2, 1) := dk_61 (dk_at dksX4_refreshes_2 9 rfl rfl)
theorem dX4_refreshes_58 : decode cX4_refreshes 58 = .ok (.iconst 0, 1) := dk_3 (dk_at dksX4_refreshes_2 10 rfl rfl)
theorem dX4_refreshes_59 : decode cX4_refreshes 59 = .ok (.istore_n 3, 1) := dk_62 (dk_at dksX4_refreshes_2 11 rfl rfl)
theorem dX4_refreshes_60 : decode cX4_refreshes 60 = .ok (.iload_n 3, 1) := dk_29 (dk_at dksX4_refreshes_2 12 rfl rfl)
theorem dX4_refreshes_61 : decode cX4_refreshes 61 = .ok (.aload_n 0, 1) := dk_42 (dk_at dksX4_refreshes_2 13 rfl rfl)
theorem dX4_refreshes_62 : decode cX4_refreshes 62 = .ok (.getfield 22, 3) := dk_180 0 22 (dk_at dksX4_refreshes_2 14 rfl rfl)
theorem dX4_refreshes_65 : decode cX4_refreshes 65 = .ok (.iload_n 2, 1) := dk_28 (dk_at dksX4_refreshes_2 17 rfl rfl)
theorem dX4_refreshes_66 : decode cX4_refreshes 66 = .ok (.iaload, 1) := dk_46 (dk_at dksX4_refreshes_2 18 rfl rfl)
theorem dX4_refreshes_67 : decode cX4_refreshes 67 = .ok (.if_icmp .ge 28, 3) := dk_162 0 28 (dk_at dksX4_refreshes_2 19 rfl rfl)
theorem dX4_refreshes_70 : decode cX4_refreshes 70 = .ok (.aload_n 0, 1) := dk_42 (dk_at dksX4_refreshes_2 22 rfl rfl)
theorem dX4_refreshes_71 : decode cX4_refreshes 71 = .ok (.aload_n 0, 1) := dk_42 (dk_at dksX4_refreshes_2 23 rfl rfl)
theorem dX4_refreshes_72 : decode cX4_refreshes 72 = .ok (.getfield 38, 3) := dk_180 0 38 (dk_at dksX4_refreshes_3 0 rfl rfl)
theorem dX4_refreshes_75 : decode cX4_refreshes 75 = .ok (.bipush 12, 2) := dk_16 12 (dk_at dksX4_refreshes_3 3 rfl rfl)
theorem dX4_refreshes_77 : decode cX4_refreshes 77 = .ok (.iload_n 2, 1) := dk_28 (dk_at dksX4_refreshes_3 5 rfl rfl)
theorem dX4_refreshes_78 : decode cX4_refreshes 78 = .ok (.imul, 1) := dk_104 (dk_at dksX4_refreshes_3 6 rfl rfl)
theorem dX4_refreshes_79 : decode cX4_refreshes 79 = .ok (.iload_n 3, 1) := dk_29 (dk_at dksX4_refreshes_3 7 rfl rfl)
theorem dX4_refreshes_80 : decode cX4_refreshes 80 = .ok (.iadd, 1) := dk_96 (dk_at dksX4_refreshes_3 8 rfl rfl)
theorem dX4_refreshes_81 : decode cX4_refreshes 81 = .ok (.iload_n 1, 1) := dk_27 (dk_at dksX4_refreshes_3 9 rfl rfl)
theorem dX4_refreshes_82 : decode cX4_refreshes 82 = .ok (.aload_n 0, 1) := dk_42 (dk_at dksX4_refreshes_3 10 rfl rfl)
theorem dX4_refreshes_83 : decode cX4_refreshes 83 = .ok (.getfield 171, 3) := dk_180 0 171 (dk_at dksX4_refreshes_3 11 rfl rfl)
theorem dX4_refreshes_86 : decode cX4_refreshes 86 = .ok (.invokevirtual 222, 3) := dk_182 0 222 (dk_at dksX4_refreshes_3 14 rfl rfl)
theorem dX4_refreshes_89 : decode cX4_refreshes 89 = .ok (.iinc 3 1, 3) := dk_132 3 1 (dk_at dksX4_refreshes_3 17 rfl rfl)
theorem dX4_refreshes_92 : decode cX4_refreshes 92 = .ok (.goto (-32), 3) := dk_167 255 224 (dk_at dksX4_refreshes_3 20 rfl rfl)
theorem dX4_refreshes_95 : decode cX4_refreshes 95 = .ok (.iinc 1 1, 3) := dk_132 1 1 (dk_at dksX4_refreshes_4 0 rfl rfl)
theorem dX4_refreshes_98 : decode cX4_refreshes 98 = .ok (.goto (-55), 3) := dk_167 255 201 (dk_at dksX4_refreshes_4 3 rfl rfl)
theorem dX4_refreshes_101 : decode cX4_refreshes 101 = .ok (.goto (-72), 3) := dk_167 255 184 (dk_at dksX4_refreshes_4 6 rfl rfl)
theorem dX4_refreshes_104 : decode cX4_refreshes 104 = .ok (.aload_n 0, 1) := dk_42 (dk_at dksX4_refreshes_4 9 rfl rfl)
theorem dX4_refreshes_105 : decode cX4_refreshes 105 = .ok (.invokevirtual 232, 3) := dk_182 0 232 (dk_at dksX4_refreshes_4 10 rfl rfl)
theorem dX4_refreshes_108 : decode cX4_refreshes 108 = .ok (.aload_n 0, 1) := dk_42 (dk_at dksX4_refreshes_4 13 rfl rfl)
theorem dX4_refreshes_109 : decode cX4_refreshes 109 = .ok (.iconst 1, 1) := dk_4 (dk_at dksX4_refreshes_4 14 rfl rfl)
theorem dX4_refreshes_110 : decode cX4_refreshes 110 = .ok (.putfield 155, 3) := dk_181 0 155 (dk_at dksX4_refreshes_4 15 rfl rfl)
theorem dX4_refreshes_113 : decode cX4_refreshes 113 = .ok (.return_, 1) := dk_177 (dk_at dksX4_refreshes_4 18 rfl rfl)
abbrev cX4_findRanks : ByteArray := prog_21_method_46_code
def yX4_findRanks : MethodName := ⟨RX4, "findRanks", "()V"⟩
def dkwX4_findRanks_7 : List UInt8 := [4, 167, 0, 4, 3, 96, 181, 0, 219, 167, 255, 122, 177]
abbrev dktX4_findRanks_7 : List UInt8 := dkwX4_findRanks_7 ++ []
def dkwX4_findRanks_6 : List UInt8 := [42, 180, 0, 219, 4, 96, 182, 0, 226, 132, 2, 1, 167, 255, 180, 42, 89, 180, 0, 219, 27, 153, 0, 7]
abbrev dktX4_findRanks_6 : List UInt8 := dkwX4_findRanks_6 ++ dktX4_findRanks_7
def dkwX4_findRanks_5 : List UInt8 := [180, 0, 42, 29, 21, 4, 3, 182, 0, 222, 42, 180, 0, 191, 154, 0, 6, 167, 0, 16, 4, 60, 42, 28]
abbrev dktX4_findRanks_5 : List UInt8 := dkwX4_findRanks_5 ++ dktX4_findRanks_6
def dkwX4_findRanks_4 : List UInt8 := [16, 12, 108, 3, 182, 0, 184, 54, 4, 21, 4, 156, 0, 6, 167, 0, 43, 42, 3, 181, 0, 191, 42, 42]
abbrev dktX4_findRanks_4 : List UInt8 := dkwX4_findRanks_4 ++ dktX4_findRanks_5
def dkwX4_findRanks_3 : List UInt8 := [167, 255, 232, 3, 60, 3, 61, 28, 42, 182, 0, 162, 162, 0, 74, 42, 28, 182, 0, 91, 62, 42, 29]
abbrev dktX4_findRanks_3 : List UInt8 := dkwX4_findRanks_3 ++ dktX4_findRanks_4
def dkwX4_findRanks_2 : List UInt8 := [180, 0, 38, 190, 162, 0, 21, 42, 180, 0, 42, 28, 42, 180, 0, 38, 28, 47, 80, 132, 2, 1]
abbrev dktX4_findRanks_2 : List UInt8 := dkwX4_findRanks_2 ++ dktX4_findRanks_3
def dkwX4_findRanks_1 : List UInt8 := [27, 3, 79, 132, 1, 1, 167, 255, 237, 42, 3, 181, 0, 219, 4, 60, 27, 153, 0, 136, 3, 61, 28, 42]
abbrev dktX4_findRanks_1 : List UInt8 := dkwX4_findRanks_1 ++ dktX4_findRanks_2
def dkwX4_findRanks_0 : List UInt8 := [42, 3, 182, 0, 212, 42, 182, 0, 216, 3, 60, 27, 42, 180, 0, 45, 190, 162, 0, 16, 42, 180, 0, 45]
abbrev dktX4_findRanks_0 : List UInt8 := dkwX4_findRanks_0 ++ dktX4_findRanks_1
theorem dksX4_findRanks_0 : cX4_findRanks.data.toList.drop 0 = dktX4_findRanks_0 := by decide +kernel
theorem dksX4_findRanks_1 : cX4_findRanks.data.toList.drop 24 = dktX4_findRanks_1 := dk_seg dksX4_findRanks_0 24 rfl rfl
theorem dksX4_findRanks_2 : cX4_findRanks.data.toList.drop 48 = dktX4_findRanks_2 := dk_seg dksX4_findRanks_1 24 rfl rfl
theorem dksX4_findRanks_3 : cX4_findRanks.data.toList.drop 70 = dktX4_findRanks_3 := dk_seg dksX4_findRanks_2 22 rfl rfl
theorem dksX4_findRanks_4 : cX4_findRanks.data.toList.drop 93 = dktX4_findRanks_4 := dk_seg dksX4_findRanks_3 23 rfl rfl
theorem dksX4_findRanks_5 : cX4_findRanks.data.toList.drop 117 = dktX4_findRanks_5 := dk_seg dksX4_findRanks_4 24 rfl rfl
theorem dksX4_findRanks_6 : cX4_findRanks.data.toList.drop 141 = dktX4_findRanks_6 := dk_seg dksX4_findRanks_5 24 rfl rfl
theorem dksX4_findRanks_7 : cX4_findRanks.data.toList.drop 165 = dktX4_findRanks_7 := dk_seg dksX4_findRanks_6 24 rfl rfl
theorem dX4_findRanks_0 : decode cX4_findRanks 0 = .ok (.aload_n 0, 1) := dk_42 (dk_at dksX4_findRanks_0 0 rfl rfl)
theorem dX4_findRanks_1 : decode cX4_findRanks 1 = .ok (.iconst 0, 1) := dk_3 (dk_at dksX4_findRanks_0 1 rfl rfl)
theorem dX4_findRanks_2 : decode cX4_findRanks 2 = .ok (.invokevirtual 212, 3) := dk_182 0 212 (dk_at dksX4_findRanks_0 2 rfl rfl)
theorem dX4_findRanks_5 : decode cX4_findRanks 5 = .ok (.aload_n 0, 1) := dk_42 (dk_at dksX4_findRanks_0 5 rfl rfl)
theorem dX4_findRanks_6 : decode cX4_findRanks 6 = .ok (.invokevirtual 216, 3) := dk_182 0 216 (dk_at dksX4_findRanks_0 6 rfl rfl)
theorem dX4_findRanks_9 : decode cX4_findRanks 9 = .ok (.iconst 0, 1) := dk_3 (dk_at dksX4_findRanks_0 9 rfl rfl)
theorem dX4_findRanks_10 : decode cX4_findRanks 10 = .ok (.istore_n 1, 1) := dk_60 (dk_at dksX4_findRanks_0 10 rfl rfl)
theorem dX4_findRanks_11 : decode cX4_findRanks 11 = .ok (.iload_n 1, 1) := dk_27 (dk_at dksX4_findRanks_0 11 rfl rfl)
theorem dX4_findRanks_12 : decode cX4_findRanks 12 = .ok (.aload_n 0, 1) := dk_42 (dk_at dksX4_findRanks_0 12 rfl rfl)
theorem dX4_findRanks_13 : decode cX4_findRanks 13 = .ok (.getfield 45, 3) := dk_180 0 45 (dk_at dksX4_findRanks_0 13 rfl rfl)
theorem dX4_findRanks_16 : decode cX4_findRanks 16 = .ok (.arraylength, 1) := dk_190 (dk_at dksX4_findRanks_0 16 rfl rfl)
theorem dX4_findRanks_17 : decode cX4_findRanks 17 = .ok (.if_icmp .ge 16, 3) := dk_162 0 16 (dk_at dksX4_findRanks_0 17 rfl rfl)
theorem dX4_findRanks_20 : decode cX4_findRanks 20 = .ok (.aload_n 0, 1) := dk_42 (dk_at dksX4_findRanks_0 20 rfl rfl)
theorem dX4_findRanks_21 : decode cX4_findRanks 21 = .ok (.getfield 45, 3) := dk_180 0 45 (dk_at dksX4_findRanks_0 21 rfl rfl)
theorem dX4_findRanks_24 : decode cX4_findRanks 24 = .ok (.iload_n 1, 1) := dk_27 (dk_at dksX4_findRanks_1 0 rfl rfl)
theorem dX4_findRanks_25 : decode cX4_findRanks 25 = .ok (.iconst 0, 1) := dk_3 (dk_at dksX4_findRanks_1 1 rfl rfl)
theorem dX4_findRanks_26 : decode cX4_findRanks 26 = .ok (.iastore, 1) := dk_79 (dk_at dksX4_findRanks_1 2 rfl rfl)
theorem dX4_findRanks_27 : decode cX4_findRanks 27 = .ok (.iinc 1 1, 3) := dk_132 1 1 (dk_at dksX4_findRanks_1 3 rfl rfl)
theorem dX4_findRanks_30 : decode cX4_findRanks 30 = .ok (.goto (-19), 3) := dk_167 255 237 (dk_at dksX4_findRanks_1 6 rfl rfl)
theorem dX4_findRanks_33 : decode cX4_findRanks 33 = .ok (.aload_n 0, 1) := dk_42 (dk_at dksX4_findRanks_1 9 rfl rfl)
theorem dX4_findRanks_34 : decode cX4_findRanks 34 = .ok (.iconst 0, 1) := dk_3 (dk_at dksX4_findRanks_1 10 rfl rfl)
theorem dX4_findRanks_35 : decode cX4_findRanks 35 = .ok (.putfield 219, 3) := dk_181 0 219 (dk_at dksX4_findRanks_1 11 rfl rfl)
theorem dX4_findRanks_38 : decode cX4_findRanks 38 = .ok (.iconst 1, 1) := dk_4 (dk_at dksX4_findRanks_1 14 rfl rfl)
theorem dX4_findRanks_39 : decode cX4_findRanks 39 = .ok (.istore_n 1, 1) := dk_60 (dk_at dksX4_findRanks_1 15 rfl rfl)
theorem dX4_findRanks_40 : decode cX4_findRanks 40 = .ok (.iload_n 1, 1) := dk_27 (dk_at dksX4_findRanks_1 16 rfl rfl)
theorem dX4_findRanks_41 : decode cX4_findRanks 41 = .ok (.ifCond .eq 136, 3) := dk_153 0 136 (dk_at dksX4_findRanks_1 17 rfl rfl)
theorem dX4_findRanks_44 : decode cX4_findRanks 44 = .ok (.iconst 0, 1) := dk_3 (dk_at dksX4_findRanks_1 20 rfl rfl)
theorem dX4_findRanks_45 : decode cX4_findRanks 45 = .ok (.istore_n 2, 1) := dk_61 (dk_at dksX4_findRanks_1 21 rfl rfl)
theorem dX4_findRanks_46 : decode cX4_findRanks 46 = .ok (.iload_n 2, 1) := dk_28 (dk_at dksX4_findRanks_1 22 rfl rfl)
theorem dX4_findRanks_47 : decode cX4_findRanks 47 = .ok (.aload_n 0, 1) := dk_42 (dk_at dksX4_findRanks_1 23 rfl rfl)
theorem dX4_findRanks_48 : decode cX4_findRanks 48 = .ok (.getfield 38, 3) := dk_180 0 38 (dk_at dksX4_findRanks_2 0 rfl rfl)
theorem dX4_findRanks_51 : decode cX4_findRanks 51 = .ok (.arraylength, 1) := dk_190 (dk_at dksX4_findRanks_2 3 rfl rfl)
theorem dX4_findRanks_52 : decode cX4_findRanks 52 = .ok (.if_icmp .ge 21, 3) := dk_162 0 21 (dk_at dksX4_findRanks_2 4 rfl rfl)
theorem dX4_findRanks_55 : decode cX4_findRanks 55 = .ok (.aload_n 0, 1) := dk_42 (dk_at dksX4_findRanks_2 7 rfl rfl)
theorem dX4_findRanks_56 : decode cX4_findRanks 56 = .ok (.getfield 42, 3) := dk_180 0 42 (dk_at dksX4_findRanks_2 8 rfl rfl)
theorem dX4_findRanks_59 : decode cX4_findRanks 59 = .ok (.iload_n 2, 1) := dk_28 (dk_at dksX4_findRanks_2 11 rfl rfl)
theorem dX4_findRanks_60 : decode cX4_findRanks 60 = .ok (.aload_n 0, 1) := dk_42 (dk_at dksX4_findRanks_2 12 rfl rfl)
theorem dX4_findRanks_61 : decode cX4_findRanks 61 = .ok (.getfield 38, 3) := dk_180 0 38 (dk_at dksX4_findRanks_2 13 rfl rfl)
theorem dX4_findRanks_64 : decode cX4_findRanks 64 = .ok (.iload_n 2, 1) := dk_28 (dk_at dksX4_findRanks_2 16 rfl rfl)
theorem dX4_findRanks_65 : decode cX4_findRanks 65 = .ok (.laload, 1) := dk_47 (dk_at dksX4_findRanks_2 17 rfl rfl)
theorem dX4_findRanks_66 : decode cX4_findRanks 66 = .ok (.lastore, 1) := dk_80 (dk_at dksX4_findRanks_2 18 rfl rfl)
theorem dX4_findRanks_67 : decode cX4_findRanks 67 = .ok (.iinc 2 1, 3) := dk_132 2 1 (dk_at dksX4_findRanks_2 19 rfl rfl)
theorem dX4_findRanks_70 : decode cX4_findRanks 70 = .ok (.goto (-24), 3) := dk_167 255 232 (dk_at dksX4_findRanks_3 0 rfl rfl)
theorem dX4_findRanks_73 : decode cX4_findRanks 73 = .ok (.iconst 0, 1) := dk_3 (dk_at dksX4_findRanks_3 3 rfl rfl)
theorem dX4_findRanks_74 : decode cX4_findRanks 74 = .ok (.istore_n 1, 1) := dk_60 (dk_at dksX4_findRanks_3 4 rfl rfl)
theorem dX4_findRanks_75 : decode cX4_findRanks 75 = .ok (.iconst 0, 1) := dk_3 (dk_at dksX4_findRanks_3 5 rfl rfl)
theorem dX4_findRanks_76 : decode cX4_findRanks 76 = .ok (.istore_n 2, 1) := dk_61 (dk_at dksX4_findRanks_3 6 rfl rfl)
theorem dX4_findRanks_77 : decode cX4_findRanks 77 = .ok (.iload_n 2, 1) := dk_28 (dk_at dksX4_findRanks_3 7 rfl rfl)
theorem dX4_findRanks_78 : decode cX4_findRanks 78 = .ok (.aload_n 0, 1) := dk_42 (dk_at dksX4_findRanks_3 8 rfl rfl)
theorem dX4_findRanks_79 : decode cX4_findRanks 79 = .ok (.invokevirtual 162, 3) := dk_182 0 162 (dk_at dksX4_findRanks_3 9 rfl rfl)
theorem dX4_findRanks_82 : decode cX4_findRanks 82 = .ok (.if_icmp .ge 74, 3) := dk_162 0 74 (dk_at dksX4_findRanks_3 12 rfl rfl)
theorem dX4_findRanks_85 : decode cX4_findRanks 85 = .ok (.aload_n 0, 1) := dk_42 (dk_at dksX4_findRanks_3 15 rfl rfl)
theorem dX4_findRanks_86 : decode cX4_findRanks 86 = .ok (.iload_n 2, 1) := dk_28 (dk_at dksX4_findRanks_3 16 rfl rfl)
theorem dX4_findRanks_87 : decode cX4_findRanks 87 = .ok (.invokevirtual 91, 3) := dk_182 0 91 (dk_at dksX4_findRanks_3 17 rfl rfl)
theorem dX4_findRanks_90 : decode cX4_findRanks 90 = .ok (.istore_n 3, 1) := dk_62 (dk_at dksX4_findRanks_3 20 rfl rfl)
theorem dX4_findRanks_91 : decode cX4_findRanks 91 = .ok (.aload_n 0, 1) := dk_42 (dk_at dksX4_findRanks_3 21 rfl rfl)
theorem dX4_findRanks_92 : decode cX4_findRanks 92 = .ok (.iload_n 3, 1) := dk_29 (dk_at dksX4_findRanks_3 22 rfl rfl)
theorem dX4_findRanks_93 : decode cX4_findRanks 93 = .ok (.bipush 12, 2) := dk_16 12 (dk_at dksX4_findRanks_4 0 rfl rfl)
theorem dX4_findRanks_95 : decode cX4_findRanks 95 = .ok (.idiv, 1) := dk_108 (dk_at dksX4_findRanks_4 2 rfl rfl)
theorem dX4_findRanks_96 : decode cX4_findRanks 96 = .ok (.iconst 0, 1) := dk_3 (dk_at dksX4_findRanks_4 3 rfl rfl)
theorem dX4_findRanks_97 : decode cX4_findRanks 97 = .ok (.invokevirtual 184, 3) := dk_182 0 184 (dk_at dksX4_findRanks_4 4 rfl rfl)
theorem dX4_findRanks_100 : decode cX4_findRanks 100 = .ok (.istore 4, 2) := dk_54 4 (dk_at dksX4_findRanks_4 7 rfl rfl)
theorem dX4_findRanks_102 : decode cX4_findRanks 102 = .ok (.iload 4, 2) := dk_21 4 (dk_at dksX4_findRanks_4 9 rfl rfl)
theorem dX4_findRanks_104 : decode cX4_findRanks 104 = .ok (.ifCond .ge 6, 3) := dk_156 0 6 (dk_at dksX4_findRanks_4 11 rfl rfl)
theorem dX4_findRanks_107 : decode cX4_findRanks 107 = .ok (.goto 43, 3) := dk_167 0 43 (dk_at dksX4_findRanks_4 14 rfl rfl)
theorem dX4_findRanks_110 : decode cX4_findRanks 110 = .ok (.aload_n 0, 1) := dk_42 (dk_at dksX4_findRanks_4 17 rfl rfl)
theorem dX4_findRanks_111 : decode cX4_findRanks 111 = .ok (.iconst 0, 1) := dk_3 (dk_at dksX4_findRanks_4 18 rfl rfl)
theorem dX4_findRanks_112 : decode cX4_findRanks 112 = .ok (.putfield 191, 3) := dk_181 0 191 (dk_at dksX4_findRanks_4 19 rfl rfl)
theorem dX4_findRanks_115 : decode cX4_findRanks 115 = .ok (.aload_n 0, 1) := dk_42 (dk_at dksX4_findRanks_4 22 rfl rfl)
theorem dX4_findRanks_116 : decode cX4_findRanks 116 = .ok (.aload_n 0, 1) := dk_42 (dk_at dksX4_findRanks_4 23 rfl rfl)
theorem dX4_findRanks_117 : decode cX4_findRanks 117 = .ok (.getfield 42, 3) := dk_180 0 42 (dk_at dksX4_findRanks_5 0 rfl rfl)
theorem dX4_findRanks_120 : decode cX4_findRanks 120 = .ok (.iload_n 3, 1) := dk_29 (dk_at dksX4_findRanks_5 3 rfl rfl)
theorem dX4_findRanks_121 : decode cX4_findRanks 121 = .ok (.iload 4, 2) := dk_21 4 (dk_at dksX4_findRanks_5 4 rfl rfl)
theorem dX4_findRanks_123 : decode cX4_findRanks 123 = .ok (.iconst 0, 1) := dk_3 (dk_at dksX4_findRanks_5 6 rfl rfl)
theorem dX4_findRanks_124 : decode cX4_findRanks 124 = .ok (.invokevirtual 222, 3) := dk_182 0 222 (dk_at dksX4_findRanks_5 7 rfl rfl)
theorem dX4_findRanks_127 : decode cX4_findRanks 127 = .ok (.aload_n 0, 1) := dk_42 (dk_at dksX4_findRanks_5 10 rfl rfl)
theorem dX4_findRanks_128 : decode cX4_findRanks 128 = .ok (.getfield 191, 3) := dk_180 0 191 (dk_at dksX4_findRanks_5 11 rfl rfl)
theorem dX4_findRanks_131 : decode cX4_findRanks 131 = .ok (.ifCond .ne 6, 3) := dk_154 0 6 (dk_at dksX4_findRanks_5 14 rfl rfl)
theorem dX4_findRanks_134 : decode cX4_findRanks 134 = .ok (.goto 16, 3) := dk_167 0 16 (dk_at dksX4_findRanks_5 17 rfl rfl)
theorem dX4_findRanks_137 : decode cX4_findRanks 137 = .ok (.iconst 1, 1) := dk_4 (dk_at dksX4_findRanks_5 20 rfl rfl)
theorem dX4_findRanks_138 : decode cX4_findRanks 138 = .ok (.istore_n 1, 1) := dk_60 (dk_at dksX4_findRanks_5 21 rfl rfl)
theorem dX4_findRanks_139 : decode cX4_findRanks 139 = .ok (.aload_n 0, 1) := dk_42 (dk_at dksX4_findRanks_5 22 rfl rfl)
theorem dX4_findRanks_140 : decode cX4_findRanks 140 = .ok (.iload_n 2, 1) := dk_28 (dk_at dksX4_findRanks_5 23 rfl rfl)
theorem dX4_findRanks_141 : decode cX4_findRanks 141 = .ok (.aload_n 0, 1) := dk_42 (dk_at dksX4_findRanks_6 0 rfl rfl)
theorem dX4_findRanks_142 : decode cX4_findRanks 142 = .ok (.getfield 219, 3) := dk_180 0 219 (dk_at dksX4_findRanks_6 1 rfl rfl)
theorem dX4_findRanks_145 : decode cX4_findRanks 145 = .ok (.iconst 1, 1) := dk_4 (dk_at dksX4_findRanks_6 4 rfl rfl)
theorem dX4_findRanks_146 : decode cX4_findRanks 146 = .ok (.iadd, 1) := dk_96 (dk_at dksX4_findRanks_6 5 rfl rfl)
theorem dX4_findRanks_147 : decode cX4_findRanks 147 = .ok (.invokevirtual 226, 3) := dk_182 0 226 (dk_at dksX4_findRanks_6 6 rfl rfl)
theorem dX4_findRanks_150 : decode cX4_findRanks 150 = .ok (.iinc 2 1, 3) := dk_132 2 1 (dk_at dksX4_findRanks_6 9 rfl rfl)
theorem dX4_findRanks_153 : decode cX4_findRanks 153 = .ok (.goto (-76), 3) := dk_167 255 180 (dk_at dksX4_findRanks_6 12 rfl rfl)
theorem dX4_findRanks_156 : decode cX4_findRanks 156 = .ok (.aload_n 0, 1) := dk_42 (dk_at dksX4_findRanks_6 15 rfl rfl)
theorem dX4_findRanks_157 : decode cX4_findRanks 157 = .ok (.dup, 1) := dk_89 (dk_at dksX4_findRanks_6 16 rfl rfl)
theorem dX4_findRanks_158 : decode cX4_findRanks 158 = .ok (.getfield 219, 3) := dk_180 0 219 (dk_at dksX4_findRanks_6 17 rfl rfl)
theorem dX4_findRanks_161 : decode cX4_findRanks 161 = .ok (.iload_n 1, 1) := dk_27 (dk_at dksX4_findRanks_6 20 rfl rfl)
theorem dX4_findRanks_162 : decode cX4_findRanks 162 = .ok (.ifCond .eq 7, 3) := dk_153 0 7 (dk_at dksX4_findRanks_6 21 rfl rfl)
theorem dX4_findRanks_165 : decode cX4_findRanks 165 = .ok (.iconst 1, 1) := dk_4 (dk_at dksX4_findRanks_7 0 rfl rfl)
theorem dX4_findRanks_166 : decode cX4_findRanks 166 = .ok (.goto 4, 3) := dk_167 0 4 (dk_at dksX4_findRanks_7 1 rfl rfl)
theorem dX4_findRanks_169 : decode cX4_findRanks 169 = .ok (.iconst 0, 1) := dk_3 (dk_at dksX4_findRanks_7 4 rfl rfl)
theorem dX4_findRanks_170 : decode cX4_findRanks 170 = .ok (.iadd, 1) := dk_96 (dk_at dksX4_findRanks_7 5 rfl rfl)
theorem dX4_findRanks_171 : decode cX4_findRanks 171 = .ok (.putfield 219, 3) := dk_181 0 219 (dk_at dksX4_findRanks_7 6 rfl rfl)
theorem dX4_findRanks_174 : decode cX4_findRanks 174 = .ok (.goto (-134), 3) := dk_167 255 122 (dk_at dksX4_findRanks_7 9 rfl rfl)
theorem dX4_findRanks_177 : decode cX4_findRanks 177 = .ok (.return_, 1) := dk_177 (dk_at dksX4_findRanks_7 12 rfl rfl)
abbrev cX4_findContexts : ByteArray := prog_21_method_37_code
def yX4_findContexts : MethodName := ⟨RX4, "findContexts", "(I)V"⟩
def dkwX4_findContexts_6 : List UInt8 := [167, 0, 6, 28, 4, 96, 61, 167, 255, 120, 177]
abbrev dktX4_findContexts_6 : List UInt8 := dkwX4_findContexts_6 ++ []
def dkwX4_findContexts_5 : List UInt8 := [180, 0, 19, 21, 7, 46, 21, 8, 182, 0, 177, 4, 62, 132, 6, 1, 167, 255, 164, 29, 153, 0, 7, 3]
abbrev dktX4_findContexts_5 : List UInt8 := dkwX4_findContexts_5 ++ dktX4_findContexts_6
def dkwX4_findContexts_4 : List UInt8 := [54, 8, 42, 42, 180, 0, 19, 21, 7, 46, 21, 8, 182, 0, 184, 155, 0, 6, 167, 0, 18, 42, 42]
abbrev dktX4_findContexts_4 : List UInt8 := dkwX4_findContexts_4 ++ dktX4_findContexts_5
def dkwX4_findContexts_3 : List UInt8 := [21, 7, 46, 16, 6, 159, 0, 6, 167, 0, 51, 21, 5, 42, 21, 7, 182, 0, 87, 27, 184, 0, 180]
abbrev dktX4_findContexts_3 : List UInt8 := dkwX4_findContexts_3 ++ dktX4_findContexts_4
def dkwX4_findContexts_2 : List UInt8 := [21, 4, 46, 162, 0, 86, 29, 154, 0, 82, 16, 12, 21, 4, 104, 21, 6, 96, 54, 7, 42, 180, 0, 7]
abbrev dktX4_findContexts_2 : List UInt8 := dkwX4_findContexts_2 ++ dktX4_findContexts_3
def dkwX4_findContexts_1 : List UInt8 := [180, 0, 32, 28, 46, 54, 4, 42, 180, 0, 35, 28, 46, 54, 5, 3, 54, 6, 21, 6, 42, 180, 0, 22]
abbrev dktX4_findContexts_1 : List UInt8 := dkwX4_findContexts_1 ++ dktX4_findContexts_2
def dkwX4_findContexts_0 : List UInt8 := [42, 3, 181, 0, 174, 42, 3, 3, 182, 0, 177, 3, 61, 28, 42, 180, 0, 174, 162, 0, 134, 3, 62, 42]
abbrev dktX4_findContexts_0 : List UInt8 := dkwX4_findContexts_0 ++ dktX4_findContexts_1
theorem dksX4_findContexts_0 : cX4_findContexts.data.toList.drop 0 = dktX4_findContexts_0 := by decide +kernel
theorem dksX4_findContexts_1 : cX4_findContexts.data.toList.drop 24 = dktX4_findContexts_1 := dk_seg dksX4_findContexts_0 24 rfl rfl
theorem dksX4_findContexts_2 : cX4_findContexts.data.toList.drop 48 = dktX4_findContexts_2 := dk_seg dksX4_findContexts_1 24 rfl rfl
theorem dksX4_findContexts_3 : cX4_findContexts.data.toList.drop 72 = dktX4_findContexts_3 := dk_seg dksX4_findContexts_2 24 rfl rfl
theorem dksX4_findContexts_4 : cX4_findContexts.data.toList.drop 95 = dktX4_findContexts_4 := dk_seg dksX4_findContexts_3 23 rfl rfl
theorem dksX4_findContexts_5 : cX4_findContexts.data.toList.drop 118 = dktX4_findContexts_5 := dk_seg dksX4_findContexts_4 23 rfl rfl
theorem dksX4_findContexts_6 : cX4_findContexts.data.toList.drop 142 = dktX4_findContexts_6 := dk_seg dksX4_findContexts_5 24 rfl rfl
theorem dX4_findContexts_0 : decode cX4_findContexts 0 = .ok (.aload_n 0, 1) := dk_42 (dk_at dksX4_findContexts_0 0 rfl rfl)
theorem dX4_findContexts_1 : decode cX4_findContexts 1 = .ok (.iconst 0, 1) := dk_3 (dk_at dksX4_findContexts_0 1 rfl rfl)
theorem dX4_findContexts_2 : decode cX4_findContexts 2 = .ok (.putfield 174, 3) := dk_181 0 174 (dk_at dksX4_findContexts_0 2 rfl rfl)
theorem dX4_findContexts_5 : decode cX4_findContexts 5 = .ok (.aload_n 0, 1) := dk_42 (dk_at dksX4_findContexts_0 5 rfl rfl)
theorem dX4_findContexts_6 : decode cX4_findContexts 6 = .ok (.iconst 0, 1) := dk_3 (dk_at dksX4_findContexts_0 6 rfl rfl)
theorem dX4_findContexts_7 : decode cX4_findContexts 7 = .ok (.iconst 0, 1) := dk_3 (dk_at dksX4_findContexts_0 7 rfl rfl)
theorem dX4_findContexts_8 : decode cX4_findContexts 8 = .ok (.invokevirtual 177, 3) := dk_182 0 177 (dk_at dksX4_findContexts_0 8 rfl rfl)
theorem dX4_findContexts_11 : decode cX4_findContexts 11 = .ok (.iconst 0, 1) := dk_3 (dk_at dksX4_findContexts_0 11 rfl rfl)
theorem dX4_findContexts_12 : decode cX4_findContexts 12 = .ok (.istore_n 2, 1) := dk_61 (dk_at dksX4_findContexts_0 12 rfl rfl)
theorem dX4_findContexts_13 : decode cX4_findContexts 13 = .ok (.iload_n 2, 1) := dk_28 (dk_at dksX4_findContexts_0 13 rfl rfl)
theorem dX4_findContexts_14 : decode cX4_findContexts 14 = .ok (.aload_n 0, 1) := dk_42 (dk_at dksX4_findContexts_0 14 rfl rfl)
theorem dX4_findContexts_15 : decode cX4_findContexts 15 = .ok (.getfield 174, 3) := dk_180 0 174 (dk_at dksX4_findContexts_0 15 rfl rfl)
theorem dX4_findContexts_18 : decode cX4_findContexts 18 = .ok (.if_icmp .ge 134, 3) := dk_162 0 134 (dk_at dksX4_findContexts_0 18 rfl rfl)
theorem dX4_findContexts_21 : decode cX4_findContexts 21 = .ok (.iconst 0, 1) := dk_3 (dk_at dksX4_findContexts_0 21 rfl rfl)
theorem dX4_findContexts_22 : decode cX4_findContexts 22 = .ok (.istore_n 3, 1) := dk_62 (dk_at dksX4_findContexts_0 22 rfl rfl)
theorem dX4_findContexts_23 : decode cX4_findContexts 23 = .ok (.aload_n 0, 1) := dk_42 (dk_at dksX4_findContexts_0 23 rfl rfl)
theorem dX4_findContexts_24 : decode cX4_findContexts 24 = .ok (.getfield 32, 3) := dk_180 0 32 (dk_at dksX4_findContexts_1 0 rfl rfl)
theorem dX4_findContexts_27 : decode cX4_findContexts 27 = .ok (.iload_n 2, 1) := dk_28 (dk_at dksX4_findContexts_1 3 rfl rfl)
theorem dX4_findContexts_28 : decode cX4_findContexts 28 = .ok (.iaload, 1) := dk_46 (dk_at dksX4_findContexts_1 4 rfl rfl)
theorem dX4_findContexts_29 : decode cX4_findContexts 29 = .ok (.istore 4, 2) := dk_54 4 (dk_at dksX4_findContexts_1 5 rfl rfl)
theorem dX4_findContexts_31 : decode cX4_findContexts 31 = .ok (.aload_n 0, 1) := dk_42 (dk_at dksX4_findContexts_1 7 rfl rfl)
theorem dX4_findContexts_32 : decode cX4_findContexts 32 = .ok (.getfield 35, 3) := dk_180 0 35 (dk_at dksX4_findContexts_1 8 rfl rfl)
theorem dX4_findContexts_35 : decode cX4_findContexts 35 = .ok (.iload_n 2, 1) := dk_28 (dk_at dksX4_findContexts_1 11 rfl rfl)
theorem dX4_findContexts_36 : decode cX4_findContexts 36 = .ok (.iaload, 1) := dk_46 (dk_at dksX4_findContexts_1 12 rfl rfl)
theorem dX4_findContexts_37 : decode cX4_findContexts 37 = .ok (.istore 5, 2) := dk_54 5 (dk_at dksX4_findContexts_1 13 rfl rfl)
theorem dX4_findContexts_39 : decode cX4_findContexts 39 = .ok (.iconst 0, 1) := dk_3 (dk_at dksX4_findContexts_1 15 rfl rfl)
theorem dX4_findContexts_40 : decode cX4_findContexts 40 = .ok (.istore 6, 2) := dk_54 6 (dk_at dksX4_findContexts_1 16 rfl rfl)
theorem dX4_findContexts_42 : decode cX4_findContexts 42 = .ok (.iload 6, 2) := dk_21 6 (dk_at dksX4_findContexts_1 18 rfl rfl)
theorem dX4_findContexts_44 : decode cX4_findContexts 44 = .ok (.aload_n 0, 1) := dk_42 (dk_at dksX4_findContexts_1 20 rfl rfl)
theorem dX4_findContexts_45 : decode cX4_findContexts 45 = .ok (.getfield 22, 3) := dk_180 0 22 (dk_at dksX4_findContexts_1 21 rfl rfl)
theorem dX4_findContexts_48 : decode cX4_findContexts 48 = .ok (.iload 4, 2) := dk_21 4 (dk_at dksX4_findContexts_2 0 rfl rfl)
theorem dX4_findContexts_50 : decode cX4_findContexts 50 = .ok (.iaload, 1) := dk_46 (dk_at dksX4_findContexts_2 2 rfl rfl)
theorem dX4_findContexts_51 : decode cX4_findContexts 51 = .ok (.if_icmp .ge 86, 3) := dk_162 0 86 (dk_at dksX4_findContexts_2 3 rfl rfl)
theorem dX4_findContexts_54 : decode cX4_findContexts 54 = .ok (.iload_n 3, 1) := dk_29 (dk_at dksX4_findContexts_2 6 rfl rfl)
theorem dX4_findContexts_55 : decode cX4_findContexts 55 = .ok (.ifCond .ne 82, 3) := dk_154 0 82 (dk_at dksX4_findContexts_2 7 rfl rfl)
theorem dX4_findContexts_58 : decode cX4_findContexts 58 = .ok (.bipush 12, 2) := dk_16 12 (dk_at dksX4_findContexts_2 10 rfl rfl)
theorem dX4_findContexts_60 : decode cX4_findContexts 60 = .ok (.iload 4, 2) := dk_21 4 (dk_at dksX4_findContexts_2 12 rfl rfl)
theorem dX4_findContexts_62 : decode cX4_findContexts 62 = .ok (.imul, 1) := dk_104 (dk_at dksX4_findContexts_2 14 rfl rfl)
theorem dX4_findContexts_63 : decode cX4_findContexts 63 = .ok (.iload 6, 2) := dk_21 6 (dk_at dksX4_findContexts_2 15 rfl rfl)
theorem dX4_findContexts_65 : decode cX4_findContexts 65 = .ok (.iadd, 1) := dk_96 (dk_at dksX4_findContexts_2 17 rfl rfl)
theorem dX4_findContexts_66 : decode cX4_findContexts 66 = .ok (.istore 7, 2) := dk_54 7 (dk_at dksX4_findContexts_2 18 rfl rfl)
theorem dX4_findContexts_68 : decode cX4_findContexts 68 = .ok (.aload_n 0, 1) := dk_42 (dk_at dksX4_findContexts_2 20 rfl rfl)
theorem dX4_findContexts_69 : decode cX4_findContexts 69 = .ok (.getfield 7, 3) := dk_180 0 7 (dk_at dksX4_findContexts_2 21 rfl rfl)
theorem dX4_findContexts_72 : decode cX4_findContexts 72 = .ok (.iload 7, 2) := dk_21 7 (dk_at dksX4_findContexts_3 0 rfl rfl)
theorem dX4_findContexts_74 : decode cX4_findContexts 74 = .ok (.iaload, 1) := dk_46 (dk_at dksX4_findContexts_3 2 rfl rfl)
theorem dX4_findContexts_75 : decode cX4_findContexts 75 = .ok (.bipush 6, 2) := dk_16 6 (dk_at dksX4_findContexts_3 3 rfl rfl)
theorem dX4_findContexts_77 : decode cX4_findContexts 77 = .ok (.if_icmp .eq 6, 3) := dk_159 0 6 (dk_at dksX4_findContexts_3 5 rfl rfl)
theorem dX4_findContexts_80 : decode cX4_findContexts 80 = .ok (.goto 51, 3) := dk_167 0 51 (dk_at dksX4_findContexts_3 8 rfl rfl)
theorem dX4_findContexts_83 : decode cX4_findContexts 83 = .ok (.iload 5, 2) := dk_21 5 (dk_at dksX4_findContexts_3 11 rfl rfl)
theorem dX4_findContexts_85 : decode cX4_findContexts 85 = .ok (.aload_n 0, 1) := dk_42 (dk_at dksX4_findContexts_3 13 rfl rfl)
theorem dX4_findContexts_86 : decode cX4_findContexts 86 = .ok (.iload 7, 2) := dk_21 7 (dk_at dksX4_findContexts_3 14 rfl rfl)
theorem dX4_findContexts_88 : decode cX4_findContexts 88 = .ok (.invokevirtual 87, 3) := dk_182 0 87 (dk_at dksX4_findContexts_3 16 rfl rfl)
theorem dX4_findContexts_91 : decode cX4_findContexts 91 = .ok (.iload_n 1, 1) := dk_27 (dk_at dksX4_findContexts_3 19 rfl rfl)
theorem dX4_findContexts_92 : decode cX4_findContexts 92 = .ok (.invokestatic 180, 3) := dk_184 0 180 (dk_at dksX4_findContexts_3 20 rfl rfl)
theorem dX4_findContexts_95 : decode cX4_findContexts 95 = .ok (.istore 8, 2) := dk_54 8 (dk_at dksX4_findContexts_4 0 rfl rfl)
theorem dX4_findContexts_97 : decode cX4_findContexts 97 = .ok (.aload_n 0, 1) := dk_42 (dk_at dksX4_findContexts_4 2 rfl rfl)
theorem dX4_findContexts_98 : decode cX4_findContexts 98 = .ok (.aload_n 0, 1) := dk_42 (dk_at dksX4_findContexts_4 3 rfl rfl)
theorem dX4_findContexts_99 : decode cX4_findContexts 99 = .ok (.getfield 19, 3) := dk_180 0 19 (dk_at dksX4_findContexts_4 4 rfl rfl)
theorem dX4_findContexts_102 : decode cX4_findContexts 102 = .ok (.iload 7, 2) := dk_21 7 (dk_at dksX4_findContexts_4 7 rfl rfl)
theorem dX4_findContexts_104 : decode cX4_findContexts 104 = .ok (.iaload, 1) := dk_46 (dk_at dksX4_findContexts_4 9 rfl rfl)
theorem dX4_findContexts_105 : decode cX4_findContexts 105 = .ok (.iload 8, 2) := dk_21 8 (dk_at dksX4_findContexts_4 10 rfl rfl)
theorem dX4_findContexts_107 : decode cX4_findContexts 107 = .ok (.invokevirtual 184, 3) := dk_182 0 184 (dk_at dksX4_findContexts_4 12 rfl rfl)
theorem dX4_findContexts_110 : decode cX4_findContexts 110 = .ok (.ifCond .lt 6, 3) := dk_155 0 6 (dk_at dksX4_findContexts_4 15 rfl rfl)
theorem dX4_findContexts_113 : decode cX4_findContexts 113 = .ok (.goto 18, 3) := dk_167 0 18 (dk_at dksX4_findContexts_4 18 rfl rfl)
theorem dX4_findContexts_116 : decode cX4_findContexts 116 = .ok (.aload_n 0, 1) := dk_42 (dk_at dksX4_findContexts_4 21 rfl rfl)
theorem dX4_findContexts_117 : decode cX4_findContexts 117 = .ok (.aload_n 0, 1) := dk_42 (dk_at dksX4_findContexts_4 22 rfl rfl)
theorem dX4_findContexts_118 : decode cX4_findContexts 118 = .ok (.getfield 19, 3) := dk_180 0 19 (dk_at dksX4_findContexts_5 0 rfl rfl)
theorem dX4_findContexts_121 : decode cX4_findContexts 121 = .ok (.iload 7, 2) := dk_21 7 (dk_at dksX4_findContexts_5 3 rfl rfl)
theorem dX4_findContexts_123 : decode cX4_findContexts 123 = .ok (.iaload, 1) := dk_46 (dk_at dksX4_findContexts_5 5 rfl rfl)
theorem dX4_findContexts_124 : decode cX4_findContexts 124 = .ok (.iload 8, 2) := dk_21 8 (dk_at dksX4_findContexts_5 6 rfl rfl)
theorem dX4_findContexts_126 : decode cX4_findContexts 126 = .ok (.invokevirtual 177, 3) := dk_182 0 177 (dk_at dksX4_findContexts_5 8 rfl rfl)
theorem dX4_findContexts_129 : decode cX4_findContexts 129 = .ok (.iconst 1, 1) := dk_4 (dk_at dksX4_findContexts_5 11 rfl rfl)
theorem dX4_findContexts_130 : decode cX4_findContexts 130 = .ok (.istore_n 3, 1) := dk_62 (dk_at dksX4_findContexts_5 12 rfl rfl)
theorem dX4_findContexts_131 : decode cX4_findContexts 131 = .ok (.iinc 6 1, 3) := dk_132 6 1 (dk_at dksX4_findContexts_5 13 rfl rfl)
theorem dX4_findContexts_134 : decode cX4_findContexts 134 = .ok (.goto (-92), 3) := dk_167 255 164 (dk_at dksX4_findContexts_5 16 rfl rfl)
theorem dX4_findContexts_137 : decode cX4_findContexts 137 = .ok (.iload_n 3, 1) := dk_29 (dk_at dksX4_findContexts_5 19 rfl rfl)
theorem dX4_findContexts_138 : decode cX4_findContexts 138 = .ok (.ifCond .eq 7, 3) := dk_153 0 7 (dk_at dksX4_findContexts_5 20 rfl rfl)
theorem dX4_findContexts_141 : decode cX4_findContexts 141 = .ok (.iconst 0, 1) := dk_3 (dk_at dksX4_findContexts_5 23 rfl rfl)
theorem dX4_findContexts_142 : decode cX4_findContexts 142 = .ok (.goto 6, 3) := dk_167 0 6 (dk_at dksX4_findContexts_6 0 rfl rfl)
theorem dX4_findContexts_145 : decode cX4_findContexts 145 = .ok (.iload_n 2, 1) := dk_28 (dk_at dksX4_findContexts_6 3 rfl rfl)
theorem dX4_findContexts_146 : decode cX4_findContexts 146 = .ok (.iconst 1, 1) := dk_4 (dk_at dksX4_findContexts_6 4 rfl rfl)
theorem dX4_findContexts_147 : decode cX4_findContexts 147 = .ok (.iadd, 1) := dk_96 (dk_at dksX4_findContexts_6 5 rfl rfl)
theorem dX4_findContexts_148 : decode cX4_findContexts 148 = .ok (.istore_n 2, 1) := dk_61 (dk_at dksX4_findContexts_6 6 rfl rfl)
theorem dX4_findContexts_149 : decode cX4_findContexts 149 = .ok (.goto (-136), 3) := dk_167 255 120 (dk_at dksX4_findContexts_6 7 rfl rfl)
theorem dX4_findContexts_152 : decode cX4_findContexts 152 = .ok (.return_, 1) := dk_177 (dk_at dksX4_findContexts_6 10 rfl rfl)
abbrev cX4_addsContext : ByteArray := prog_21_method_36_code
def yX4_addsContext : MethodName := ⟨RX4, "addsContext", "(II)V"⟩
def dkwX4_addsContext_4 : List UInt8 := [89, 180, 0, 174, 4, 96, 181, 0, 174, 177]
abbrev dktX4_addsContext_4 : List UInt8 := dkwX4_addsContext_4 ++ []
def dkwX4_addsContext_3 : List UInt8 := [100, 46, 79, 132, 3, 255, 167, 255, 185, 42, 180, 0, 32, 29, 27, 79, 42, 180, 0, 35, 29, 28, 79, 42]
abbrev dktX4_addsContext_3 : List UInt8 := dkwX4_addsContext_3 ++ dktX4_addsContext_4
def dkwX4_addsContext_2 : List UInt8 := [180, 0, 32, 29, 42, 180, 0, 32, 29, 4, 100, 46, 79, 42, 180, 0, 35, 29, 42, 180, 0, 35, 29, 4]
abbrev dktX4_addsContext_2 : List UInt8 := dkwX4_addsContext_2 ++ dktX4_addsContext_3
def dkwX4_addsContext_1 : List UInt8 := [180, 0, 32, 29, 4, 100, 46, 27, 160, 0, 49, 42, 180, 0, 35, 29, 4, 100, 46, 28, 164, 0, 37, 42]
abbrev dktX4_addsContext_1 : List UInt8 := dkwX4_addsContext_1 ++ dktX4_addsContext_2
def dkwX4_addsContext_0 : List UInt8 := [42, 180, 0, 174, 62, 29, 158, 0, 73, 42, 180, 0, 32, 29, 4, 100, 46, 27, 163, 0, 27, 42]
abbrev dktX4_addsContext_0 : List UInt8 := dkwX4_addsContext_0 ++ dktX4_addsContext_1
theorem dksX4_addsContext_0 : cX4_addsContext.data.toList.drop 0 = dktX4_addsContext_0 := by decide +kernel
theorem dksX4_addsContext_1 : cX4_addsContext.data.toList.drop 22 = dktX4_addsContext_1 := dk_seg dksX4_addsContext_0 22 rfl rfl
theorem dksX4_addsContext_2 : cX4_addsContext.data.toList.drop 46 = dktX4_addsContext_2 := dk_seg dksX4_addsContext_1 24 rfl rfl
theorem dksX4_addsContext_3 : cX4_addsContext.data.toList.drop 70 = dktX4_addsContext_3 := dk_seg dksX4_addsContext_2 24 rfl rfl
theorem dksX4_addsContext_4 : cX4_addsContext.data.toList.drop 94 = dktX4_addsContext_4 := dk_seg dksX4_addsContext_3 24 rfl rfl
theorem dX4_addsContext_0 : decode cX4_addsContext 0 = .ok (.aload_n 0, 1) := dk_42 (dk_at dksX4_addsContext_0 0 rfl rfl)
theorem dX4_addsContext_1 : decode cX4_addsContext 1 = .ok (.getfield 174, 3) := dk_180 0 174 (dk_at dksX4_addsContext_0 1 rfl rfl)
theorem dX4_addsContext_4 : decode cX4_addsContext 4 = .ok (.istore_n 3, 1) := dk_62 (dk_at dksX4_addsContext_0 4 rfl rfl)
theorem dX4_addsContext_5 : decode cX4_addsContext 5 = .ok (.iload_n 3, 1) := dk_29 (dk_at dksX4_addsContext_0 5 rfl rfl)
theorem dX4_addsContext_6 : decode cX4_addsContext 6 = .ok (.ifCond .le 73, 3) := dk_158 0 73 (dk_at dksX4_addsContext_0 6 rfl rfl)
theorem dX4_addsContext_9 : decode cX4_addsContext 9 = .ok (.aload_n 0, 1) := dk_42 (dk_at dksX4_addsContext_0 9 rfl rfl)
theorem dX4_addsContext_10 : decode cX4_addsContext 10 = .ok (.getfield 32, 3) := dk_180 0 32 (dk_at dksX4_addsContext_0 10 rfl rfl)
theorem dX4_addsContext_13 : decode cX4_addsContext 13 = .ok (.iload_n 3, 1) := dk_29 (dk_at dksX4_addsContext_0 13 rfl rfl)
theorem dX4_addsContext_14 : decode cX4_addsContext 14 = .ok (.iconst 1, 1) := dk_4 (dk_at dksX4_addsContext_0 14 rfl rfl)
theorem dX4_addsContext_15 : decode cX4_addsContext 15 = .ok (.isub, 1) := dk_100 (dk_at dksX4_addsContext_0 15 rfl rfl)
theorem dX4_addsContext_16 : decode cX4_addsContext 16 = .ok (.iaload, 1) := dk_46 (dk_at dksX4_addsContext_0 16 rfl rfl)
theorem dX4_addsContext_17 : decode cX4_addsContext 17 = .ok (.iload_n 1, 1) := dk_27 (dk_at dksX4_addsContext_0 17 rfl rfl)
theorem dX4_addsContext_18 : decode cX4_addsContext 18 = .ok (.if_icmp .gt 27, 3) := dk_163 0 27 (dk_at dksX4_addsContext_0 18 rfl rfl)
theorem dX4_addsContext_21 : decode cX4_addsContext 21 = .ok (.aload_n 0, 1) := dk_42 (dk_at dksX4_addsContext_0 21 rfl rfl)
theorem dX4_addsContext_22 : decode cX4_addsContext 22 = .ok (.getfield 32, 3) := dk_180 0 32 (dk_at dksX4_addsContext_1 0 rfl rfl)
theorem dX4_addsContext_25 : decode cX4_addsContext 25 = .ok (.iload_n 3, 1) := dk_29 (dk_at dksX4_addsContext_1 3 rfl rfl)
theorem dX4_addsContext_26 : decode cX4_addsContext 26 = .ok (.iconst 1, 1) := dk_4 (dk_at dksX4_addsContext_1 4 rfl rfl)
theorem dX4_addsContext_27 : decode cX4_addsContext 27 = .ok (.isub, 1) := dk_100 (dk_at dksX4_addsContext_1 5 rfl rfl)
theorem dX4_addsContext_28 : decode cX4_addsContext 28 = .ok (.iaload, 1) := dk_46 (dk_at dksX4_addsContext_1 6 rfl rfl)
theorem dX4_addsContext_29 : decode cX4_addsContext 29 = .ok (.iload_n 1, 1) := dk_27 (dk_at dksX4_addsContext_1 7 rfl rfl)
theorem dX4_addsContext_30 : decode cX4_addsContext 30 = .ok (.if_icmp .ne 49, 3) := dk_160 0 49 (dk_at dksX4_addsContext_1 8 rfl rfl)
theorem dX4_addsContext_33 : decode cX4_addsContext 33 = .ok (.aload_n 0, 1) := dk_42 (dk_at dksX4_addsContext_1 11 rfl rfl)
theorem dX4_addsContext_34 : decode cX4_addsContext 34 = .ok (.getfield 35, 3) := dk_180 0 35 (dk_at dksX4_addsContext_1 12 rfl rfl)
theorem dX4_addsContext_37 : decode cX4_addsContext 37 = .ok (.iload_n 3, 1) := dk_29 (dk_at dksX4_addsContext_1 15 rfl rfl)
theorem dX4_addsContext_38 : decode cX4_addsContext 38 = .ok (.iconst 1, 1) := dk_4 (dk_at dksX4_addsContext_1 16 rfl rfl)
theorem dX4_addsContext_39 : decode cX4_addsContext 39 = .ok (.isub, 1) := dk_100 (dk_at dksX4_addsContext_1 17 rfl rfl)
theorem dX4_addsContext_40 : decode cX4_addsContext 40 = .ok (.iaload, 1) := dk_46 (dk_at dksX4_addsContext_1 18 rfl rfl)
theorem dX4_addsContext_41 : decode cX4_addsContext 41 = .ok (.iload_n 2, 1) := dk_28 (dk_at dksX4_addsContext_1 19 rfl rfl)
theorem dX4_addsContext_42 : decode cX4_addsContext 42 = .ok (.if_icmp .le 37, 3) := dk_164 0 37 (dk_at dksX4_addsContext_1 20 rfl rfl)
theorem dX4_addsContext_45 : decode cX4_addsContext 45 = .ok (.aload_n 0, 1) := dk_42 (dk_at dksX4_addsContext_1 23 rfl rfl)
theorem dX4_addsContext_46 : decode cX4_addsContext 46 = .ok (.getfield 32, 3) := dk_180 0 32 (dk_at dksX4_addsContext_2 0 rfl rfl)
theorem dX4_addsContext_49 : decode cX4_addsContext 49 = .ok (.iload_n 3, 1) := dk_29 (dk_at dksX4_addsContext_2 3 rfl rfl)
theorem dX4_addsContext_50 : decode cX4_addsContext 50 = .ok (.aload_n 0, 1) := dk_42 (dk_at dksX4_addsContext_2 4 rfl rfl)
theorem dX4_addsContext_51 : decode cX4_addsContext 51 = .ok (.getfield 32, 3) := dk_180 0 32 (dk_at dksX4_addsContext_2 5 rfl rfl)
theorem dX4_addsContext_54 : decode cX4_addsContext 54 = .ok (.iload_n 3, 1) := dk_29 (dk_at dksX4_addsContext_2 8 rfl rfl)
theorem dX4_addsContext_55 : decode cX4_addsContext 55 = .ok (.iconst 1, 1) := dk_4 (dk_at dksX4_addsContext_2 9 rfl rfl)
theorem dX4_addsContext_56 : decode cX4_addsContext 56 = .ok (.isub, 1) := dk_100 (dk_at dksX4_addsContext_2 10 rfl rfl)
theorem dX4_addsContext_57 : decode cX4_addsContext 57 = .ok (.iaload, 1) := dk_46 (dk_at dksX4_addsContext_2 11 rfl rfl)
theorem dX4_addsContext_58 : decode cX4_addsContext 58 = .ok (.iastore, 1) := dk_79 (dk_at dksX4_addsContext_2 12 rfl rfl)
theorem dX4_addsContext_59 : decode cX4_addsContext 59 = .ok (.aload_n 0, 1) := dk_42 (dk_at dksX4_addsContext_2 13 rfl rfl)
theorem dX4_addsContext_60 : decode cX4_addsContext 60 = .ok (.getfield 35, 3) := dk_180 0 35 (dk_at dksX4_addsContext_2 14 rfl rfl)
theorem dX4_addsContext_63 : decode cX4_addsContext 63 = .ok (.iload_n 3, 1) := dk_29 (dk_at dksX4_addsContext_2 17 rfl rfl)
theorem dX4_addsContext_64 : decode cX4_addsContext 64 = .ok (.aload_n 0, 1) := dk_42 (dk_at dksX4_addsContext_2 18 rfl rfl)
theorem dX4_addsContext_65 : decode cX4_addsContext 65 = .ok (.getfield 35, 3) := dk_180 0 35 (dk_at dksX4_addsContext_2 19 rfl rfl)
theorem dX4_addsContext_68 : decode cX4_addsContext 68 = .ok (.iload_n 3, 1) := dk_29 (dk_at dksX4_addsContext_2 22 rfl rfl)
theorem dX4_addsContext_69 : decode cX4_addsContext 69 = .ok (.iconst 1, 1) := dk_4 (dk_at dksX4_addsContext_2 23 rfl rfl)
theorem dX4_addsContext_70 : decode cX4_addsContext 70 = .ok (.isub, 1) := dk_100 (dk_at dksX4_addsContext_3 0 rfl rfl)
theorem dX4_addsContext_71 : decode cX4_addsContext 71 = .ok (.iaload, 1) := dk_46 (dk_at dksX4_addsContext_3 1 rfl rfl)
theorem dX4_addsContext_72 : decode cX4_addsContext 72 = .ok (.iastore, 1) := dk_79 (dk_at dksX4_addsContext_3 2 rfl rfl)
theorem dX4_addsContext_73 : decode cX4_addsContext 73 = .ok (.iinc 3 (-1), 3) := dk_132 3 255 (dk_at dksX4_addsContext_3 3 rfl rfl)
theorem dX4_addsContext_76 : decode cX4_addsContext 76 = .ok (.goto (-71), 3) := dk_167 255 185 (dk_at dksX4_addsContext_3 6 rfl rfl)
theorem dX4_addsContext_79 : decode cX4_addsContext 79 = .ok (.aload_n 0, 1) := dk_42 (dk_at dksX4_addsContext_3 9 rfl rfl)
theorem dX4_addsContext_80 : decode cX4_addsContext 80 = .ok (.getfield 32, 3) := dk_180 0 32 (dk_at dksX4_addsContext_3 10 rfl rfl)
theorem dX4_addsContext_83 : decode cX4_addsContext 83 = .ok (.iload_n 3, 1) := dk_29 (dk_at dksX4_addsContext_3 13 rfl rfl)
theorem dX4_addsContext_84 : decode cX4_addsContext 84 = .ok (.iload_n 1, 1) := dk_27 (dk_at dksX4_addsContext_3 14 rfl rfl)
theorem dX4_addsContext_85 : decode cX4_addsContext 85 = .ok (.iastore, 1) := dk_79 (dk_at dksX4_addsContext_3 15 rfl rfl)
theorem dX4_addsContext_86 : decode cX4_addsContext 86 = .ok (.aload_n 0, 1) := dk_42 (dk_at dksX4_addsContext_3 16 rfl rfl)
theorem dX4_addsContext_87 : decode cX4_addsContext 87 = .ok (.getfield 35, 3) := dk_180 0 35 (dk_at dksX4_addsContext_3 17 rfl rfl)
theorem dX4_addsContext_90 : decode cX4_addsContext 90 = .ok (.iload_n 3, 1) := dk_29 (dk_at dksX4_addsContext_3 20 rfl rfl)
theorem dX4_addsContext_91 : decode cX4_addsContext 91 = .ok (.iload_n 2, 1) := dk_28 (dk_at dksX4_addsContext_3 21 rfl rfl)
theorem dX4_addsContext_92 : decode cX4_addsContext 92 = .ok (.iastore, 1) := dk_79 (dk_at dksX4_addsContext_3 22 rfl rfl)
theorem dX4_addsContext_93 : decode cX4_addsContext 93 = .ok (.aload_n 0, 1) := dk_42 (dk_at dksX4_addsContext_3 23 rfl rfl)
theorem dX4_addsContext_94 : decode cX4_addsContext 94 = .ok (.dup, 1) := dk_89 (dk_at dksX4_addsContext_4 0 rfl rfl)
theorem dX4_addsContext_95 : decode cX4_addsContext 95 = .ok (.getfield 174, 3) := dk_180 0 174 (dk_at dksX4_addsContext_4 1 rfl rfl)
theorem dX4_addsContext_98 : decode cX4_addsContext 98 = .ok (.iconst 1, 1) := dk_4 (dk_at dksX4_addsContext_4 4 rfl rfl)
theorem dX4_addsContext_99 : decode cX4_addsContext 99 = .ok (.iadd, 1) := dk_96 (dk_at dksX4_addsContext_4 5 rfl rfl)
theorem dX4_addsContext_100 : decode cX4_addsContext 100 = .ok (.putfield 174, 3) := dk_181 0 174 (dk_at dksX4_addsContext_4 6 rfl rfl)
theorem dX4_addsContext_103 : decode cX4_addsContext 103 = .ok (.return_, 1) := dk_177 (dk_at dksX4_addsContext_4 9 rfl rfl)
abbrev cX4_numberOf : ByteArray := prog_21_method_11_code
def yX4_numberOf : MethodName := ⟨RX4, "numberOf", "(I)I"⟩
def dkwX4_numberOf_1 : List UInt8 := [132, 3, 1, 167, 255, 236, 28, 172]
abbrev dktX4_numberOf_1 : List UInt8 := dkwX4_numberOf_1 ++ []
def dkwX4_numberOf_0 : List UInt8 := [27, 16, 12, 112, 61, 3, 62, 29, 27, 16, 12, 108, 162, 0, 18, 28, 42, 180, 0, 22, 29, 46, 96, 61]
abbrev dktX4_numberOf_0 : List UInt8 := dkwX4_numberOf_0 ++ dktX4_numberOf_1
theorem dksX4_numberOf_0 : cX4_numberOf.data.toList.drop 0 = dktX4_numberOf_0 := by decide +kernel
theorem dksX4_numberOf_1 : cX4_numberOf.data.toList.drop 24 = dktX4_numberOf_1 := dk_seg dksX4_numberOf_0 24 rfl rfl
theorem dX4_numberOf_0 : decode cX4_numberOf 0 = .ok (.iload_n 1, 1) := dk_27 (dk_at dksX4_numberOf_0 0 rfl rfl)
theorem dX4_numberOf_1 : decode cX4_numberOf 1 = .ok (.bipush 12, 2) := dk_16 12 (dk_at dksX4_numberOf_0 1 rfl rfl)
theorem dX4_numberOf_3 : decode cX4_numberOf 3 = .ok (.irem, 1) := dk_112 (dk_at dksX4_numberOf_0 3 rfl rfl)
theorem dX4_numberOf_4 : decode cX4_numberOf 4 = .ok (.istore_n 2, 1) := dk_61 (dk_at dksX4_numberOf_0 4 rfl rfl)
theorem dX4_numberOf_5 : decode cX4_numberOf 5 = .ok (.iconst 0, 1) := dk_3 (dk_at dksX4_numberOf_0 5 rfl rfl)
theorem dX4_numberOf_6 : decode cX4_numberOf 6 = .ok (.istore_n 3, 1) := dk_62 (dk_at dksX4_numberOf_0 6 rfl rfl)
theorem dX4_numberOf_7 : decode cX4_numberOf 7 = .ok (.iload_n 3, 1) := dk_29 (dk_at dksX4_numberOf_0 7 rfl rfl)
theorem dX4_numberOf_8 : decode cX4_numberOf 8 = .ok (.iload_n 1, 1) := dk_27 (dk_at dksX4_numberOf_0 8 rfl rfl)
theorem dX4_numberOf_9 : decode cX4_numberOf 9 = .ok (.bipush 12, 2) := dk_16 12 (dk_at dksX4_numberOf_0 9 rfl rfl)
theorem dX4_numberOf_11 : decode cX4_numberOf 11 = .ok (.idiv, 1) := dk_108 (dk_at dksX4_numberOf_0 11 rfl rfl)
theorem dX4_numberOf_12 : decode cX4_numberOf 12 = .ok (.if_icmp .ge 18, 3) := dk_162 0 18 (dk_at dksX4_numberOf_0 12 rfl rfl)
theorem dX4_numberOf_15 : decode cX4_numberOf 15 = .ok (.iload_n 2, 1) := dk_28 (dk_at dksX4_numberOf_0 15 rfl rfl)
theorem dX4_numberOf_16 : decode cX4_numberOf 16 = .ok (.aload_n 0, 1) := dk_42 (dk_at dksX4_numberOf_0 16 rfl rfl)
theorem dX4_numberOf_17 : decode cX4_numberOf 17 = .ok (.getfield 22, 3) := dk_180 0 22 (dk_at dksX4_numberOf_0 17 rfl rfl)
theorem dX4_numberOf_20 : decode cX4_numberOf 20 = .ok (.iload_n 3, 1) := dk_29 (dk_at dksX4_numberOf_0 20 rfl rfl)
theorem dX4_numberOf_21 : decode cX4_numberOf 21 = .ok (.iaload, 1) := dk_46 (dk_at dksX4_numberOf_0 21 rfl rfl)
theorem dX4_numberOf_22 : decode cX4_numberOf 22 = .ok (.iadd, 1) := dk_96 (dk_at dksX4_numberOf_0 22 rfl rfl)
theorem dX4_numberOf_23 : decode cX4_numberOf 23 = .ok (.istore_n 2, 1) := dk_61 (dk_at dksX4_numberOf_0 23 rfl rfl)
theorem dX4_numberOf_24 : decode cX4_numberOf 24 = .ok (.iinc 3 1, 3) := dk_132 3 1 (dk_at dksX4_numberOf_1 0 rfl rfl)
theorem dX4_numberOf_27 : decode cX4_numberOf 27 = .ok (.goto (-20), 3) := dk_167 255 236 (dk_at dksX4_numberOf_1 3 rfl rfl)
theorem dX4_numberOf_30 : decode cX4_numberOf 30 = .ok (.iload_n 2, 1) := dk_28 (dk_at dksX4_numberOf_1 6 rfl rfl)
theorem dX4_numberOf_31 : decode cX4_numberOf 31 = .ok (.ireturn, 1) := dk_172 (dk_at dksX4_numberOf_1 7 rfl rfl)
abbrev cX4_codeBehind : ByteArray := prog_21_method_35_code
def yX4_codeBehind : MethodName := ⟨RX4, "codeBehind", "(III)I"⟩
def dkwX4_codeBehind_1 : List UInt8 := [26, 16, 100, 112, 16, 100, 104, 96, 27, 96, 172]
abbrev dktX4_codeBehind_1 : List UInt8 := dkwX4_codeBehind_1 ++ []
def dkwX4_codeBehind_0 : List UInt8 := [28, 154, 0, 5, 3, 172, 28, 4, 159, 0, 7, 26, 154, 0, 9, 17, 39, 16, 27, 96, 172, 17, 78, 32]
abbrev dktX4_codeBehind_0 : List UInt8 := dkwX4_codeBehind_0 ++ dktX4_codeBehind_1
theorem dksX4_codeBehind_0 : cX4_codeBehind.data.toList.drop 0 = dktX4_codeBehind_0 := by decide +kernel
theorem dksX4_codeBehind_1 : cX4_codeBehind.data.toList.drop 24 = dktX4_codeBehind_1 := dk_seg dksX4_codeBehind_0 24 rfl rfl
theorem dX4_codeBehind_0 : decode cX4_codeBehind 0 = .ok (.iload_n 2, 1) := dk_28 (dk_at dksX4_codeBehind_0 0 rfl rfl)
theorem dX4_codeBehind_1 : decode cX4_codeBehind 1 = .ok (.ifCond .ne 5, 3) := dk_154 0 5 (dk_at dksX4_codeBehind_0 1 rfl rfl)
theorem dX4_codeBehind_4 : decode cX4_codeBehind 4 = .ok (.iconst 0, 1) := dk_3 (dk_at dksX4_codeBehind_0 4 rfl rfl)
theorem dX4_codeBehind_5 : decode cX4_codeBehind 5 = .ok (.ireturn, 1) := dk_172 (dk_at dksX4_codeBehind_0 5 rfl rfl)
theorem dX4_codeBehind_6 : decode cX4_codeBehind 6 = .ok (.iload_n 2, 1) := dk_28 (dk_at dksX4_codeBehind_0 6 rfl rfl)
theorem dX4_codeBehind_7 : decode cX4_codeBehind 7 = .ok (.iconst 1, 1) := dk_4 (dk_at dksX4_codeBehind_0 7 rfl rfl)
theorem dX4_codeBehind_8 : decode cX4_codeBehind 8 = .ok (.if_icmp .eq 7, 3) := dk_159 0 7 (dk_at dksX4_codeBehind_0 8 rfl rfl)
theorem dX4_codeBehind_11 : decode cX4_codeBehind 11 = .ok (.iload_n 0, 1) := dk_26 (dk_at dksX4_codeBehind_0 11 rfl rfl)
theorem dX4_codeBehind_12 : decode cX4_codeBehind 12 = .ok (.ifCond .ne 9, 3) := dk_154 0 9 (dk_at dksX4_codeBehind_0 12 rfl rfl)
theorem dX4_codeBehind_15 : decode cX4_codeBehind 15 = .ok (.sipush 10000, 3) := dk_17 39 16 (dk_at dksX4_codeBehind_0 15 rfl rfl)
theorem dX4_codeBehind_18 : decode cX4_codeBehind 18 = .ok (.iload_n 1, 1) := dk_27 (dk_at dksX4_codeBehind_0 18 rfl rfl)
theorem dX4_codeBehind_19 : decode cX4_codeBehind 19 = .ok (.iadd, 1) := dk_96 (dk_at dksX4_codeBehind_0 19 rfl rfl)
theorem dX4_codeBehind_20 : decode cX4_codeBehind 20 = .ok (.ireturn, 1) := dk_172 (dk_at dksX4_codeBehind_0 20 rfl rfl)
theorem dX4_codeBehind_21 : decode cX4_codeBehind 21 = .ok (.sipush 20000, 3) := dk_17 78 32 (dk_at dksX4_codeBehind_0 21 rfl rfl)
theorem dX4_codeBehind_24 : decode cX4_codeBehind 24 = .ok (.iload_n 0, 1) := dk_26 (dk_at dksX4_codeBehind_1 0 rfl rfl)
theorem dX4_codeBehind_25 : decode cX4_codeBehind 25 = .ok (.bipush 100, 2) := dk_16 100 (dk_at dksX4_codeBehind_1 1 rfl rfl)
theorem dX4_codeBehind_27 : decode cX4_codeBehind 27 = .ok (.irem, 1) := dk_112 (dk_at dksX4_codeBehind_1 3 rfl rfl)
theorem dX4_codeBehind_28 : decode cX4_codeBehind 28 = .ok (.bipush 100, 2) := dk_16 100 (dk_at dksX4_codeBehind_1 4 rfl rfl)
theorem dX4_codeBehind_30 : decode cX4_codeBehind 30 = .ok (.imul, 1) := dk_104 (dk_at dksX4_codeBehind_1 6 rfl rfl)
theorem dX4_codeBehind_31 : decode cX4_codeBehind 31 = .ok (.iadd, 1) := dk_96 (dk_at dksX4_codeBehind_1 7 rfl rfl)
theorem dX4_codeBehind_32 : decode cX4_codeBehind 32 = .ok (.iload_n 1, 1) := dk_27 (dk_at dksX4_codeBehind_1 8 rfl rfl)
theorem dX4_codeBehind_33 : decode cX4_codeBehind 33 = .ok (.iadd, 1) := dk_96 (dk_at dksX4_codeBehind_1 9 rfl rfl)
theorem dX4_codeBehind_34 : decode cX4_codeBehind 34 = .ok (.ireturn, 1) := dk_172 (dk_at dksX4_codeBehind_1 10 rfl rfl)
abbrev cX4_contextOf : ByteArray := prog_21_method_34_code
def yX4_contextOf : MethodName := ⟨RX4, "contextOf", "(II)I"⟩
def dkwX4_contextOf_1 : List UInt8 := [29, 46, 28, 160, 0, 5, 29, 172, 132, 3, 1, 167, 255, 223, 2, 172]
abbrev dktX4_contextOf_1 : List UInt8 := dkwX4_contextOf_1 ++ []
def dkwX4_contextOf_0 : List UInt8 := [3, 62, 29, 42, 180, 0, 174, 162, 0, 31, 42, 180, 0, 32, 29, 46, 27, 160, 0, 15, 42, 180, 0, 35]
abbrev dktX4_contextOf_0 : List UInt8 := dkwX4_contextOf_0 ++ dktX4_contextOf_1
theorem dksX4_contextOf_0 : cX4_contextOf.data.toList.drop 0 = dktX4_contextOf_0 := by decide +kernel
theorem dksX4_contextOf_1 : cX4_contextOf.data.toList.drop 24 = dktX4_contextOf_1 := dk_seg dksX4_contextOf_0 24 rfl rfl
theorem dX4_contextOf_0 : decode cX4_contextOf 0 = .ok (.iconst 0, 1) := dk_3 (dk_at dksX4_contextOf_0 0 rfl rfl)
theorem dX4_contextOf_1 : decode cX4_contextOf 1 = .ok (.istore_n 3, 1) := dk_62 (dk_at dksX4_contextOf_0 1 rfl rfl)
theorem dX4_contextOf_2 : decode cX4_contextOf 2 = .ok (.iload_n 3, 1) := dk_29 (dk_at dksX4_contextOf_0 2 rfl rfl)
theorem dX4_contextOf_3 : decode cX4_contextOf 3 = .ok (.aload_n 0, 1) := dk_42 (dk_at dksX4_contextOf_0 3 rfl rfl)
theorem dX4_contextOf_4 : decode cX4_contextOf 4 = .ok (.getfield 174, 3) := dk_180 0 174 (dk_at dksX4_contextOf_0 4 rfl rfl)
theorem dX4_contextOf_7 : decode cX4_contextOf 7 = .ok (.if_icmp .ge 31, 3) := dk_162 0 31 (dk_at dksX4_contextOf_0 7 rfl rfl)
theorem dX4_contextOf_10 : decode cX4_contextOf 10 = .ok (.aload_n 0, 1) := dk_42 (dk_at dksX4_contextOf_0 10 rfl rfl)
theorem dX4_contextOf_11 : decode cX4_contextOf 11 = .ok (.getfield 32, 3) := dk_180 0 32 (dk_at dksX4_contextOf_0 11 rfl rfl)
theorem dX4_contextOf_14 : decode cX4_contextOf 14 = .ok (.iload_n 3, 1) := dk_29 (dk_at dksX4_contextOf_0 14 rfl rfl)
theorem dX4_contextOf_15 : decode cX4_contextOf 15 = .ok (.iaload, 1) := dk_46 (dk_at dksX4_contextOf_0 15 rfl rfl)
theorem dX4_contextOf_16 : decode cX4_contextOf 16 = .ok (.iload_n 1, 1) := dk_27 (dk_at dksX4_contextOf_0 16 rfl rfl)
theorem dX4_contextOf_17 : decode cX4_contextOf 17 = .ok (.if_icmp .ne 15, 3) := dk_160 0 15 (dk_at dksX4_contextOf_0 17 rfl rfl)
theorem dX4_contextOf_20 : decode cX4_contextOf 20 = .ok (.aload_n 0, 1) := dk_42 (dk_at dksX4_contextOf_0 20 rfl rfl)
theorem dX4_contextOf_21 : decode cX4_contextOf 21 = .ok (.getfield 35, 3) := dk_180 0 35 (dk_at dksX4_contextOf_0 21 rfl rfl)
theorem dX4_contextOf_24 : decode cX4_contextOf 24 = .ok (.iload_n 3, 1) := dk_29 (dk_at dksX4_contextOf_1 0 rfl rfl)
theorem dX4_contextOf_25 : decode cX4_contextOf 25 = .ok (.iaload, 1) := dk_46 (dk_at dksX4_contextOf_1 1 rfl rfl)
theorem dX4_contextOf_26 : decode cX4_contextOf 26 = .ok (.iload_n 2, 1) := dk_28 (dk_at dksX4_contextOf_1 2 rfl rfl)
theorem dX4_contextOf_27 : decode cX4_contextOf 27 = .ok (.if_icmp .ne 5, 3) := dk_160 0 5 (dk_at dksX4_contextOf_1 3 rfl rfl)
theorem dX4_contextOf_30 : decode cX4_contextOf 30 = .ok (.iload_n 3, 1) := dk_29 (dk_at dksX4_contextOf_1 6 rfl rfl)
theorem dX4_contextOf_31 : decode cX4_contextOf 31 = .ok (.ireturn, 1) := dk_172 (dk_at dksX4_contextOf_1 7 rfl rfl)
theorem dX4_contextOf_32 : decode cX4_contextOf 32 = .ok (.iinc 3 1, 3) := dk_132 3 1 (dk_at dksX4_contextOf_1 8 rfl rfl)
theorem dX4_contextOf_35 : decode cX4_contextOf 35 = .ok (.goto (-33), 3) := dk_167 255 223 (dk_at dksX4_contextOf_1 11 rfl rfl)
theorem dX4_contextOf_38 : decode cX4_contextOf 38 = .ok (.iconst (-1), 1) := dk_2 (dk_at dksX4_contextOf_1 14 rfl rfl)
theorem dX4_contextOf_39 : decode cX4_contextOf 39 = .ok (.ireturn, 1) := dk_172 (dk_at dksX4_contextOf_1 15 rfl rfl)
abbrev cX4_clears : ByteArray := prog_21_method_44_code
def yX4_clears : MethodName := ⟨RX4, "clears", "()V"⟩
def dkwX4_clears_1 : List UInt8 := [177]
abbrev dktX4_clears_1 : List UInt8 := dkwX4_clears_1 ++ []
def dkwX4_clears_0 : List UInt8 := [3, 60, 27, 42, 180, 0, 38, 190, 162, 0, 16, 42, 180, 0, 38, 27, 9, 80, 132, 1, 1, 167, 255, 237]
abbrev dktX4_clears_0 : List UInt8 := dkwX4_clears_0 ++ dktX4_clears_1
theorem dksX4_clears_0 : cX4_clears.data.toList.drop 0 = dktX4_clears_0 := by decide +kernel
theorem dksX4_clears_1 : cX4_clears.data.toList.drop 24 = dktX4_clears_1 := dk_seg dksX4_clears_0 24 rfl rfl
theorem dX4_clears_0 : decode cX4_clears 0 = .ok (.iconst 0, 1) := dk_3 (dk_at dksX4_clears_0 0 rfl rfl)
theorem dX4_clears_1 : decode cX4_clears 1 = .ok (.istore_n 1, 1) := dk_60 (dk_at dksX4_clears_0 1 rfl rfl)
theorem dX4_clears_2 : decode cX4_clears 2 = .ok (.iload_n 1, 1) := dk_27 (dk_at dksX4_clears_0 2 rfl rfl)
theorem dX4_clears_3 : decode cX4_clears 3 = .ok (.aload_n 0, 1) := dk_42 (dk_at dksX4_clears_0 3 rfl rfl)
theorem dX4_clears_4 : decode cX4_clears 4 = .ok (.getfield 38, 3) := dk_180 0 38 (dk_at dksX4_clears_0 4 rfl rfl)
theorem dX4_clears_7 : decode cX4_clears 7 = .ok (.arraylength, 1) := dk_190 (dk_at dksX4_clears_0 7 rfl rfl)
theorem dX4_clears_8 : decode cX4_clears 8 = .ok (.if_icmp .ge 16, 3) := dk_162 0 16 (dk_at dksX4_clears_0 8 rfl rfl)
theorem dX4_clears_11 : decode cX4_clears 11 = .ok (.aload_n 0, 1) := dk_42 (dk_at dksX4_clears_0 11 rfl rfl)
theorem dX4_clears_12 : decode cX4_clears 12 = .ok (.getfield 38, 3) := dk_180 0 38 (dk_at dksX4_clears_0 12 rfl rfl)
theorem dX4_clears_15 : decode cX4_clears 15 = .ok (.iload_n 1, 1) := dk_27 (dk_at dksX4_clears_0 15 rfl rfl)
theorem dX4_clears_16 : decode cX4_clears 16 = .ok (.lconst 0, 1) := dk_9 (dk_at dksX4_clears_0 16 rfl rfl)
theorem dX4_clears_17 : decode cX4_clears 17 = .ok (.lastore, 1) := dk_80 (dk_at dksX4_clears_0 17 rfl rfl)
theorem dX4_clears_18 : decode cX4_clears 18 = .ok (.iinc 1 1, 3) := dk_132 1 1 (dk_at dksX4_clears_0 18 rfl rfl)
theorem dX4_clears_21 : decode cX4_clears 21 = .ok (.goto (-19), 3) := dk_167 255 237 (dk_at dksX4_clears_0 21 rfl rfl)
theorem dX4_clears_24 : decode cX4_clears 24 = .ok (.return_, 1) := dk_177 (dk_at dksX4_clears_1 0 rfl rfl)
abbrev cX4_follows : ByteArray := prog_21_method_43_code
def yX4_follows : MethodName := ⟨RX4, "follows", "([JIII)V"⟩
def dkwX4_follows_15 : List UInt8 := [167, 0, 3, 177]
abbrev dktX4_follows_15 : List UInt8 := dkwX4_follows_15 ++ []
def dkwX4_follows_14 : List UInt8 := [21, 8, 104, 96, 21, 6, 182, 0, 202, 42, 43, 21, 5, 7, 7, 21, 8, 104, 96, 4, 96, 182, 0, 202]
abbrev dktX4_follows_14 : List UInt8 := dkwX4_follows_14 ++ dktX4_follows_15
def dkwX4_follows_13 : List UInt8 := [180, 0, 35, 29, 46, 42, 28, 182, 0, 87, 21, 4, 184, 0, 180, 182, 0, 184, 54, 8, 42, 43, 7, 7]
abbrev dktX4_follows_13 : List UInt8 := dkwX4_follows_13 ++ dktX4_follows_14
def dkwX4_follows_12 : List UInt8 := [182, 0, 199, 132, 7, 1, 167, 255, 169, 167, 0, 66, 42, 180, 0, 19, 28, 46, 54, 7, 42, 21, 7, 42]
abbrev dktX4_follows_12 : List UInt8 := dkwX4_follows_12 ++ dktX4_follows_13
def dkwX4_follows_11 : List UInt8 := [180, 0, 19, 28, 46, 96, 5, 163, 0, 18, 42, 21, 5, 21, 7, 42, 180, 0, 19, 28, 46, 96]
abbrev dktX4_follows_11 : List UInt8 := dkwX4_follows_11 ++ dktX4_follows_12
def dkwX4_follows_10 : List UInt8 := [182, 0, 199, 167, 0, 45, 21, 7, 17, 0, 128, 161, 0, 37, 21, 7, 17, 0, 128, 100, 6, 112, 42]
abbrev dktX4_follows_10 : List UInt8 := dkwX4_follows_10 ++ dktX4_follows_11
def dkwX4_follows_9 : List UInt8 := [184, 0, 187, 154, 0, 6, 167, 0, 65, 42, 180, 0, 19, 28, 46, 154, 0, 14, 42, 21, 5, 21, 7]
abbrev dktX4_follows_9 : List UInt8 := dkwX4_follows_9 ++ dktX4_follows_10
def dkwX4_follows_8 : List UInt8 := [182, 0, 199, 167, 0, 162, 3, 54, 7, 21, 7, 17, 0, 152, 162, 0, 85, 43, 21, 6, 21, 7]
abbrev dktX4_follows_8 : List UInt8 := dkwX4_follows_8 ++ dktX4_follows_9
def dkwX4_follows_7 : List UInt8 := [132, 7, 1, 167, 255, 225, 167, 0, 182, 42, 21, 5, 17, 0, 128, 6, 42, 28, 182, 0, 206, 104, 96]
abbrev dktX4_follows_7 : List UInt8 := dkwX4_follows_7 ++ dktX4_follows_8
def dkwX4_follows_6 : List UInt8 := [162, 0, 29, 43, 21, 5, 21, 7, 184, 0, 187, 153, 0, 12, 42, 43, 21, 7, 21, 6, 182, 0, 202]
abbrev dktX4_follows_6 : List UInt8 := dkwX4_follows_6 ++ dktX4_follows_7
def dkwX4_follows_5 : List UInt8 := [21, 5, 21, 7, 182, 0, 202, 132, 7, 1, 167, 255, 225, 167, 0, 222, 3, 54, 7, 21, 7, 17, 0, 152]
abbrev dktX4_follows_5 : List UInt8 := dkwX4_follows_5 ++ dktX4_follows_6
def dkwX4_follows_4 : List UInt8 := [54, 7, 21, 7, 17, 0, 152, 162, 0, 29, 43, 21, 6, 21, 7, 184, 0, 187, 153, 0, 12, 42, 43]
abbrev dktX4_follows_4 : List UInt8 := dkwX4_follows_4 ++ dktX4_follows_5
def dkwX4_follows_3 : List UInt8 := [42, 21, 5, 21, 6, 182, 0, 199, 167, 1, 18, 42, 43, 21, 5, 21, 6, 182, 0, 202, 167, 1, 6, 3]
abbrev dktX4_follows_3 : List UInt8 := dkwX4_follows_3 ++ dktX4_follows_4
def dkwX4_follows_2 : List UInt8 := [170, 0, 0, 0, 1, 1, 0, 0, 0, 0, 0, 0, 0, 5, 0, 0, 0, 38, 0, 0, 0, 49, 0, 0, 0, 61, 0, 0, 0, 101, 0, 0, 0, 141, 0, 0, 0, 161]
abbrev dktX4_follows_2 : List UInt8 := dkwX4_follows_2 ++ dktX4_follows_3
def dkwX4_follows_1 : List UInt8 := [42, 180, 0, 7, 28, 46]
abbrev dktX4_follows_1 : List UInt8 := dkwX4_follows_1 ++ dktX4_follows_2
def dkwX4_follows_0 : List UInt8 := [42, 180, 0, 13, 28, 46, 29, 184, 0, 196, 54, 5, 42, 180, 0, 16, 28, 46, 29, 184, 0, 196, 54, 6]
abbrev dktX4_follows_0 : List UInt8 := dkwX4_follows_0 ++ dktX4_follows_1
theorem dksX4_follows_0 : cX4_follows.data.toList.drop 0 = dktX4_follows_0 := by decide +kernel
theorem dksX4_follows_1 : cX4_follows.data.toList.drop 24 = dktX4_follows_1 := dk_seg dksX4_follows_0 24 rfl rfl
theorem dksX4_follows_2 : cX4_follows.data.toList.drop 30 = dktX4_follows_2 := dk_seg dksX4_follows_1 6 rfl rfl
theorem dksX4_follows_3 : cX4_follows.data.toList.drop 68 = dktX4_follows_3 := dk_seg dksX4_follows_2 38 rfl rfl
theorem dksX4_follows_4 : cX4_follows.data.toList.drop 92 = dktX4_follows_4 := dk_seg dksX4_follows_3 24 rfl rfl
theorem dksX4_follows_5 : cX4_follows.data.toList.drop 115 = dktX4_follows_5 := dk_seg dksX4_follows_4 23 rfl rfl
theorem dksX4_follows_6 : cX4_follows.data.toList.drop 139 = dktX4_follows_6 := dk_seg dksX4_follows_5 24 rfl rfl
theorem dksX4_follows_7 : cX4_follows.data.toList.drop 162 = dktX4_follows_7 := dk_seg dksX4_follows_6 23 rfl rfl
theorem dksX4_follows_8 : cX4_follows.data.toList.drop 185 = dktX4_follows_8 := dk_seg dksX4_follows_7 23 rfl rfl
theorem dksX4_follows_9 : cX4_follows.data.toList.drop 207 = dktX4_follows_9 := dk_seg dksX4_follows_8 22 rfl rfl
theorem dksX4_follows_10 : cX4_follows.data.toList.drop 230 = dktX4_follows_10 := dk_seg dksX4_follows_9 23 rfl rfl
theorem dksX4_follows_11 : cX4_follows.data.toList.drop 253 = dktX4_follows_11 := dk_seg dksX4_follows_10 23 rfl rfl
theorem dksX4_follows_12 : cX4_follows.data.toList.drop 275 = dktX4_follows_12 := dk_seg dksX4_follows_11 22 rfl rfl
theorem dksX4_follows_13 : cX4_follows.data.toList.drop 299 = dktX4_follows_13 := dk_seg dksX4_follows_12 24 rfl rfl
theorem dksX4_follows_14 : cX4_follows.data.toList.drop 323 = dktX4_follows_14 := dk_seg dksX4_follows_13 24 rfl rfl
theorem dksX4_follows_15 : cX4_follows.data.toList.drop 347 = dktX4_follows_15 := dk_seg dksX4_follows_14 24 rfl rfl
theorem dX4_follows_0 : decode cX4_follows 0 = .ok (.aload_n 0, 1) := dk_42 (dk_at dksX4_follows_0 0 rfl rfl)
theorem dX4_follows_1 : decode cX4_follows 1 = .ok (.getfield 13, 3) := dk_180 0 13 (dk_at dksX4_follows_0 1 rfl rfl)
theorem dX4_follows_4 : decode cX4_follows 4 = .ok (.iload_n 2, 1) := dk_28 (dk_at dksX4_follows_0 4 rfl rfl)
theorem dX4_follows_5 : decode cX4_follows 5 = .ok (.iaload, 1) := dk_46 (dk_at dksX4_follows_0 5 rfl rfl)
theorem dX4_follows_6 : decode cX4_follows 6 = .ok (.iload_n 3, 1) := dk_29 (dk_at dksX4_follows_0 6 rfl rfl)
theorem dX4_follows_7 : decode cX4_follows 7 = .ok (.invokestatic 196, 3) := dk_184 0 196 (dk_at dksX4_follows_0 7 rfl rfl)
theorem dX4_follows_10 : decode cX4_follows 10 = .ok (.istore 5, 2) := dk_54 5 (dk_at dksX4_follows_0 10 rfl rfl)
theorem dX4_follows_12 : decode cX4_follows 12 = .ok (.aload_n 0, 1) := dk_42 (dk_at dksX4_follows_0 12 rfl rfl)
theorem dX4_follows_13 : decode cX4_follows 13 = .ok (.getfield 16, 3) := dk_180 0 16 (dk_at dksX4_follows_0 13 rfl rfl)
theorem dX4_follows_16 : decode cX4_follows 16 = .ok (.iload_n 2, 1) := dk_28 (dk_at dksX4_follows_0 16 rfl rfl)
theorem dX4_follows_17 : decode cX4_follows 17 = .ok (.iaload, 1) := dk_46 (dk_at dksX4_follows_0 17 rfl rfl)
theorem dX4_follows_18 : decode cX4_follows 18 = .ok (.iload_n 3, 1) := dk_29 (dk_at dksX4_follows_0 18 rfl rfl)
theorem dX4_follows_19 : decode cX4_follows 19 = .ok (.invokestatic 196, 3) := dk_184 0 196 (dk_at dksX4_follows_0 19 rfl rfl)
theorem dX4_follows_22 : decode cX4_follows 22 = .ok (.istore 6, 2) := dk_54 6 (dk_at dksX4_follows_0 22 rfl rfl)
theorem dX4_follows_24 : decode cX4_follows 24 = .ok (.aload_n 0, 1) := dk_42 (dk_at dksX4_follows_1 0 rfl rfl)
theorem dX4_follows_25 : decode cX4_follows 25 = .ok (.getfield 7, 3) := dk_180 0 7 (dk_at dksX4_follows_1 1 rfl rfl)
theorem dX4_follows_28 : decode cX4_follows 28 = .ok (.iload_n 2, 1) := dk_28 (dk_at dksX4_follows_1 4 rfl rfl)
theorem dX4_follows_29 : decode cX4_follows 29 = .ok (.iaload, 1) := dk_46 (dk_at dksX4_follows_1 5 rfl rfl)
theorem dX4_follows_30 : decode cX4_follows 30 = .ok (.tableswitch 257 0 5 #[38, 49, 61, 101, 141, 161], 38) := by decide +kernel
theorem dX4_follows_68 : decode cX4_follows 68 = .ok (.aload_n 0, 1) := dk_42 (dk_at dksX4_follows_3 0 rfl rfl)
theorem dX4_follows_69 : decode cX4_follows 69 = .ok (.iload 5, 2) := dk_21 5 (dk_at dksX4_follows_3 1 rfl rfl)
theorem dX4_follows_71 : decode cX4_follows 71 = .ok (.iload 6, 2) := dk_21 6 (dk_at dksX4_follows_3 3 rfl rfl)
theorem dX4_follows_73 : decode cX4_follows 73 = .ok (.invokevirtual 199, 3) := dk_182 0 199 (dk_at dksX4_follows_3 5 rfl rfl)
theorem dX4_follows_76 : decode cX4_follows 76 = .ok (.goto 274, 3) := dk_167 1 18 (dk_at dksX4_follows_3 8 rfl rfl)
theorem dX4_follows_79 : decode cX4_follows 79 = .ok (.aload_n 0, 1) := dk_42 (dk_at dksX4_follows_3 11 rfl rfl)
theorem dX4_follows_80 : decode cX4_follows 80 = .ok (.aload_n 1, 1) := dk_43 (dk_at dksX4_follows_3 12 rfl rfl)
theorem dX4_follows_81 : decode cX4_follows 81 = .ok (.iload 5, 2) := dk_21 5 (dk_at dksX4_follows_3 13 rfl rfl)
theorem dX4_follows_83 : decode cX4_follows 83 = .ok (.iload 6, 2) := dk_21 6 (dk_at dksX4_follows_3 15 rfl rfl)
theorem dX4_follows_85 : decode cX4_follows 85 = .ok (.invokevirtual 202, 3) := dk_182 0 202 (dk_at dksX4_follows_3 17 rfl rfl)
theorem dX4_follows_88 : decode cX4_follows 88 = .ok (.goto 262, 3) := dk_167 1 6 (dk_at dksX4_follows_3 20 rfl rfl)
theorem dX4_follows_91 : decode cX4_follows 91 = .ok (.iconst 0, 1) := dk_3 (dk_at dksX4_follows_3 23 rfl rfl)
theorem dX4_follows_92 : decode cX4_follows 92 = .ok (.istore 7, 2) := dk_54 7 (dk_at dksX4_follows_4 0 rfl rfl)
theorem dX4_follows_94 : decode cX4_follows 94 = .ok (.iload 7, 2) := dk_21 7 (dk_at dksX4_follows_4 2 rfl rfl)
theorem dX4_follows_96 : decode cX4_follows 96 = .ok (.sipush 152, 3) := dk_17 0 152 (dk_at dksX4_follows_4 4 rfl rfl)
theorem dX4_follows_99 : decode cX4_follows 99 = .ok (.if_icmp .ge 29, 3) := dk_162 0 29 (dk_at dksX4_follows_4 7 rfl rfl)
theorem dX4_follows_102 : decode cX4_follows 102 = .ok (.aload_n 1, 1) := dk_43 (dk_at dksX4_follows_4 10 rfl rfl)
theorem dX4_follows_103 : decode cX4_follows 103 = .ok (.iload 6, 2) := dk_21 6 (dk_at dksX4_follows_4 11 rfl rfl)
theorem dX4_follows_105 : decode cX4_follows 105 = .ok (.iload 7, 2) := dk_21 7 (dk_at dksX4_follows_4 13 rfl rfl)
theorem dX4_follows_107 : decode cX4_follows 107 = .ok (.invokestatic 187, 3) := dk_184 0 187 (dk_at dksX4_follows_4 15 rfl rfl)
theorem dX4_follows_110 : decode cX4_follows 110 = .ok (.ifCond .eq 12, 3) := dk_153 0 12 (dk_at dksX4_follows_4 18 rfl rfl)
theorem dX4_follows_113 : decode cX4_follows 113 = .ok (.aload_n 0, 1) := dk_42 (dk_at dksX4_follows_4 21 rfl rfl)
theorem dX4_follows_114 : decode cX4_follows 114 = .ok (.aload_n 1, 1) := dk_43 (dk_at dksX4_follows_4 22 rfl rfl)
theorem dX4_follows_115 : decode cX4_follows 115 = .ok (.iload 5, 2) := dk_21 5 (dk_at dksX4_follows_5 0 rfl rfl)
theorem dX4_follows_117 : decode cX4_follows 117 = .ok (.iload 7, 2) := dk_21 7 (dk_at dksX4_follows_5 2 rfl rfl)
theorem dX4_follows_119 : decode cX4_follows 119 = .ok (.invokevirtual 202, 3) := dk_182 0 202 (dk_at dksX4_follows_5 4 rfl rfl)
theorem dX4_follows_122 : decode cX4_follows 122 = .ok (.iinc 7 1, 3) := dk_132 7 1 (dk_at dksX4_follows_5 7 rfl rfl)
theorem dX4_follows_125 : decode cX4_follows 125 = .ok (.goto (-31), 3) := dk_167 255 225 (dk_at dksX4_follows_5 10 rfl rfl)
theorem dX4_follows_128 : decode cX4_follows 128 = .ok (.goto 222, 3) := dk_167 0 222 (dk_at dksX4_follows_5 13 rfl rfl)
theorem dX4_follows_131 : decode cX4_follows 131 = .ok (.iconst 0, 1) := dk_3 (dk_at dksX4_follows_5 16 rfl rfl)
theorem dX4_follows_132 : decode cX4_follows 132 = .ok (.istore 7, 2) := dk_54 7 (dk_at dksX4_follows_5 17 rfl rfl)
theorem dX4_follows_134 : decode cX4_follows 134 = .ok (.iload 7, 2) := dk_21 7 (dk_at dksX4_follows_5 19 rfl rfl)
theorem dX4_follows_136 : decode cX4_follows 136 = .ok (.sipush 152, 3) := dk_17 0 152 (dk_at dksX4_follows_5 21 rfl rfl)
theorem dX4_follows_139 : decode cX4_follows 139 = .ok (.if_icmp .ge 29, 3) := dk_162 0 29 (dk_at dksX4_follows_6 0 rfl rfl)
theorem dX4_follows_142 : decode cX4_follows 142 = .ok (.aload_n 1, 1) := dk_43 (dk_at dksX4_follows_6 3 rfl rfl)
theorem dX4_follows_143 : decode cX4_follows 143 = .ok (.iload 5, 2) := dk_21 5 (dk_at dksX4_follows_6 4 rfl rfl)
theorem dX4_follows_145 : decode cX4_follows 145 = .ok (.iload 7, 2) := dk_21 7 (dk_at dksX4_follows_6 6 rfl rfl)
theorem dX4_follows_147 : decode cX4_follows 147 = .ok (.invokestatic 187, 3) := dk_184 0 187 (dk_at dksX4_follows_6 8 rfl rfl)
theorem dX4_follows_150 : decode cX4_follows 150 = .ok (.ifCond .eq 12, 3) := dk_153 0 12 (dk_at dksX4_follows_6 11 rfl rfl)
theorem dX4_follows_153 : decode cX4_follows 153 = .ok (.aload_n 0, 1) := dk_42 (dk_at dksX4_follows_6 14 rfl rfl)
theorem dX4_follows_154 : decode cX4_follows 154 = .ok (.aload_n 1, 1) := dk_43 (dk_at dksX4_follows_6 15 rfl rfl)
theorem dX4_follows_155 : decode cX4_follows 155 = .ok (.iload 7, 2) := dk_21 7 (dk_at dksX4_follows_6 16 rfl rfl)
theorem dX4_follows_157 : decode cX4_follows 157 = .ok (.iload 6, 2) := dk_21 6 (dk_at dksX4_follows_6 18 rfl rfl)
theorem dX4_follows_159 : decode cX4_follows 159 = .ok (.invokevirtual 202, 3) := dk_182 0 202 (dk_at dksX4_follows_6 20 rfl rfl)
theorem dX4_follows_162 : decode cX4_follows 162 = .ok (.iinc 7 1, 3) := dk_132 7 1 (dk_at dksX4_follows_7 0 rfl rfl)
theorem dX4_follows_165 : decode cX4_follows 165 = .ok (.goto (-31), 3) := dk_167 255 225 (dk_at dksX4_follows_7 3 rfl rfl)
theorem dX4_follows_168 : decode cX4_follows 168 = .ok (.goto 182, 3) := dk_167 0 182 (dk_at dksX4_follows_7 6 rfl rfl)
theorem dX4_follows_171 : decode cX4_follows 171 = .ok (.aload_n 0, 1) := dk_42 (dk_at dksX4_follows_7 9 rfl rfl)
theorem dX4_follows_172 : decode cX4_follows 172 = .ok (.iload 5, 2) := dk_21 5 (dk_at dksX4_follows_7 10 rfl rfl)
theorem dX4_follows_174 : decode cX4_follows 174 = .ok (.sipush 128, 3) := dk_17 0 128 (dk_at dksX4_follows_7 12 rfl rfl)
theorem dX4_follows_177 : decode cX4_follows 177 = .ok (.iconst 3, 1) := dk_6 (dk_at dksX4_follows_7 15 rfl rfl)
theorem dX4_follows_178 : decode cX4_follows 178 = .ok (.aload_n 0, 1) := dk_42 (dk_at dksX4_follows_7 16 rfl rfl)
theorem dX4_follows_179 : decode cX4_follows 179 = .ok (.iload_n 2, 1) := dk_28 (dk_at dksX4_follows_7 17 rfl rfl)
theorem dX4_follows_180 : decode cX4_follows 180 = .ok (.invokevirtual 206, 3) := dk_182 0 206 (dk_at dksX4_follows_7 18 rfl rfl)
theorem dX4_follows_183 : decode cX4_follows 183 = .ok (.imul, 1) := dk_104 (dk_at dksX4_follows_7 21 rfl rfl)
theorem dX4_follows_184 : decode cX4_follows 184 = .ok (.iadd, 1) := dk_96 (dk_at dksX4_follows_7 22 rfl rfl)
theorem dX4_follows_185 : decode cX4_follows 185 = .ok (.invokevirtual 199, 3) := dk_182 0 199 (dk_at dksX4_follows_8 0 rfl rfl)
theorem dX4_follows_188 : decode cX4_follows 188 = .ok (.goto 162, 3) := dk_167 0 162 (dk_at dksX4_follows_8 3 rfl rfl)
theorem dX4_follows_191 : decode cX4_follows 191 = .ok (.iconst 0, 1) := dk_3 (dk_at dksX4_follows_8 6 rfl rfl)
theorem dX4_follows_192 : decode cX4_follows 192 = .ok (.istore 7, 2) := dk_54 7 (dk_at dksX4_follows_8 7 rfl rfl)
theorem dX4_follows_194 : decode cX4_follows 194 = .ok (.iload 7, 2) := dk_21 7 (dk_at dksX4_follows_8 9 rfl rfl)
theorem dX4_follows_196 : decode cX4_follows 196 = .ok (.sipush 152, 3) := dk_17 0 152 (dk_at dksX4_follows_8 11 rfl rfl)
theorem dX4_follows_199 : decode cX4_follows 199 = .ok (.if_icmp .ge 85, 3) := dk_162 0 85 (dk_at dksX4_follows_8 14 rfl rfl)
theorem dX4_follows_202 : decode cX4_follows 202 = .ok (.aload_n 1, 1) := dk_43 (dk_at dksX4_follows_8 17 rfl rfl)
theorem dX4_follows_203 : decode cX4_follows 203 = .ok (.iload 6, 2) := dk_21 6 (dk_at dksX4_follows_8 18 rfl rfl)
theorem dX4_follows_205 : decode cX4_follows 205 = .ok (.iload 7, 2) := dk_21 7 (dk_at dksX4_follows_8 20 rfl rfl)
theorem dX4_follows_207 : decode cX4_follows 207 = .ok (.invokestatic 187, 3) := dk_184 0 187 (dk_at dksX4_follows_9 0 rfl rfl)
theorem dX4_follows_210 : decode cX4_follows 210 = .ok (.ifCond .ne 6, 3) := dk_154 0 6 (dk_at dksX4_follows_9 3 rfl rfl)
theorem dX4_follows_213 : decode cX4_follows 213 = .ok (.goto 65, 3) := dk_167 0 65 (dk_at dksX4_follows_9 6 rfl rfl)
theorem dX4_follows_216 : decode cX4_follows 216 = .ok (.aload_n 0, 1) := dk_42 (dk_at dksX4_follows_9 9 rfl rfl)
theorem dX4_follows_217 : decode cX4_follows 217 = .ok (.getfield 19, 3) := dk_180 0 19 (dk_at dksX4_follows_9 10 rfl rfl)
theorem dX4_follows_220 : decode cX4_follows 220 = .ok (.iload_n 2, 1) := dk_28 (dk_at dksX4_follows_9 13 rfl rfl)
theorem dX4_follows_221 : decode cX4_follows 221 = .ok (.iaload, 1) := dk_46 (dk_at dksX4_follows_9 14 rfl rfl)
theorem dX4_follows_222 : decode cX4_follows 222 = .ok (.ifCond .ne 14, 3) := dk_154 0 14 (dk_at dksX4_follows_9 15 rfl rfl)
theorem dX4_follows_225 : decode cX4_follows 225 = .ok (.aload_n 0, 1) := dk_42 (dk_at dksX4_follows_9 18 rfl rfl)
theorem dX4_follows_226 : decode cX4_follows 226 = .ok (.iload 5, 2) := dk_21 5 (dk_at dksX4_follows_9 19 rfl rfl)
theorem dX4_follows_228 : decode cX4_follows 228 = .ok (.iload 7, 2) := dk_21 7 (dk_at dksX4_follows_9 21 rfl rfl)
theorem dX4_follows_230 : decode cX4_follows 230 = .ok (.invokevirtual 199, 3) := dk_182 0 199 (dk_at dksX4_follows_10 0 rfl rfl)
theorem dX4_follows_233 : decode cX4_follows 233 = .ok (.goto 45, 3) := dk_167 0 45 (dk_at dksX4_follows_10 3 rfl rfl)
theorem dX4_follows_236 : decode cX4_follows 236 = .ok (.iload 7, 2) := dk_21 7 (dk_at dksX4_follows_10 6 rfl rfl)
theorem dX4_follows_238 : decode cX4_follows 238 = .ok (.sipush 128, 3) := dk_17 0 128 (dk_at dksX4_follows_10 8 rfl rfl)
theorem dX4_follows_241 : decode cX4_follows 241 = .ok (.if_icmp .lt 37, 3) := dk_161 0 37 (dk_at dksX4_follows_10 11 rfl rfl)
theorem dX4_follows_244 : decode cX4_follows 244 = .ok (.iload 7, 2) := dk_21 7 (dk_at dksX4_follows_10 14 rfl rfl)
theorem dX4_follows_246 : decode cX4_follows 246 = .ok (.sipush 128, 3) := dk_17 0 128 (dk_at dksX4_follows_10 16 rfl rfl)
theorem dX4_follows_249 : decode cX4_follows 249 = .ok (.isub, 1) := dk_100 (dk_at dksX4_follows_10 19 rfl rfl)
theorem dX4_follows_250 : decode cX4_follows 250 = .ok (.iconst 3, 1) := dk_6 (dk_at dksX4_follows_10 20 rfl rfl)
theorem dX4_follows_251 : decode cX4_follows 251 = .ok (.irem, 1) := dk_112 (dk_at dksX4_follows_10 21 rfl rfl)
theorem dX4_follows_252 : decode cX4_follows 252 = .ok (.aload_n 0, 1) := dk_42 (dk_at dksX4_follows_10 22 rfl rfl)
theorem dX4_follows_253 : decode cX4_follows 253 = .ok (.getfield 19, 3) := dk_180 0 19 (dk_at dksX4_follows_11 0 rfl rfl)
theorem dX4_follows_256 : decode cX4_follows 256 = .ok (.iload_n 2, 1) := dk_28 (dk_at dksX4_follows_11 3 rfl rfl)
theorem dX4_follows_257 : decode cX4_follows 257 = .ok (.iaload, 1) := dk_46 (dk_at dksX4_follows_11 4 rfl rfl)
theorem dX4_follows_258 : decode cX4_follows 258 = .ok (.iadd, 1) := dk_96 (dk_at dksX4_follows_11 5 rfl rfl)
theorem dX4_follows_259 : decode cX4_follows 259 = .ok (.iconst 2, 1) := dk_5 (dk_at dksX4_follows_11 6 rfl rfl)
theorem dX4_follows_260 : decode cX4_follows 260 = .ok (.if_icmp .gt 18, 3) := dk_163 0 18 (dk_at dksX4_follows_11 7 rfl rfl)
theorem dX4_follows_263 : decode cX4_follows 263 = .ok (.aload_n 0, 1) := dk_42 (dk_at dksX4_follows_11 10 rfl rfl)
theorem dX4_follows_264 : decode cX4_follows 264 = .ok (.iload 5, 2) := dk_21 5 (dk_at dksX4_follows_11 11 rfl rfl)
theorem dX4_follows_266 : decode cX4_follows 266 = .ok (.iload 7, 2) := dk_21 7 (dk_at dksX4_follows_11 13 rfl rfl)
theorem dX4_follows_268 : decode cX4_follows 268 = .ok (.aload_n 0, 1) := dk_42 (dk_at dksX4_follows_11 15 rfl rfl)
theorem dX4_follows_269 : decode cX4_follows 269 = .ok (.getfield 19, 3) := dk_180 0 19 (dk_at dksX4_follows_11 16 rfl rfl)
theorem dX4_follows_272 : decode cX4_follows 272 = .ok (.iload_n 2, 1) := dk_28 (dk_at dksX4_follows_11 19 rfl rfl)
theorem dX4_follows_273 : decode cX4_follows 273 = .ok (.iaload, 1) := dk_46 (dk_at dksX4_follows_11 20 rfl rfl)
theorem dX4_follows_274 : decode cX4_follows 274 = .ok (.iadd, 1) := dk_96 (dk_at dksX4_follows_11 21 rfl rfl)
theorem dX4_follows_275 : decode cX4_follows 275 = .ok (.invokevirtual 199, 3) := dk_182 0 199 (dk_at dksX4_follows_12 0 rfl rfl)
theorem dX4_follows_278 : decode cX4_follows 278 = .ok (.iinc 7 1, 3) := dk_132 7 1 (dk_at dksX4_follows_12 3 rfl rfl)
theorem dX4_follows_281 : decode cX4_follows 281 = .ok (.goto (-87), 3) := dk_167 255 169 (dk_at dksX4_follows_12 6 rfl rfl)
theorem dX4_follows_284 : decode cX4_follows 284 = .ok (.goto 66, 3) := dk_167 0 66 (dk_at dksX4_follows_12 9 rfl rfl)
theorem dX4_follows_287 : decode cX4_follows 287 = .ok (.aload_n 0, 1) := dk_42 (dk_at dksX4_follows_12 12 rfl rfl)
theorem dX4_follows_288 : decode cX4_follows 288 = .ok (.getfield 19, 3) := dk_180 0 19 (dk_at dksX4_follows_12 13 rfl rfl)
theorem dX4_follows_291 : decode cX4_follows 291 = .ok (.iload_n 2, 1) := dk_28 (dk_at dksX4_follows_12 16 rfl rfl)
theorem dX4_follows_292 : decode cX4_follows 292 = .ok (.iaload, 1) := dk_46 (dk_at dksX4_follows_12 17 rfl rfl)
theorem dX4_follows_293 : decode cX4_follows 293 = .ok (.istore 7, 2) := dk_54 7 (dk_at dksX4_follows_12 18 rfl rfl)
theorem dX4_follows_295 : decode cX4_follows 295 = .ok (.aload_n 0, 1) := dk_42 (dk_at dksX4_follows_12 20 rfl rfl)
theorem dX4_follows_296 : decode cX4_follows 296 = .ok (.iload 7, 2) := dk_21 7 (dk_at dksX4_follows_12 21 rfl rfl)
theorem dX4_follows_298 : decode cX4_follows 298 = .ok (.aload_n 0, 1) := dk_42 (dk_at dksX4_follows_12 23 rfl rfl)
theorem dX4_follows_299 : decode cX4_follows 299 = .ok (.getfield 35, 3) := dk_180 0 35 (dk_at dksX4_follows_13 0 rfl rfl)
theorem dX4_follows_302 : decode cX4_follows 302 = .ok (.iload_n 3, 1) := dk_29 (dk_at dksX4_follows_13 3 rfl rfl)
theorem dX4_follows_303 : decode cX4_follows 303 = .ok (.iaload, 1) := dk_46 (dk_at dksX4_follows_13 4 rfl rfl)
theorem dX4_follows_304 : decode cX4_follows 304 = .ok (.aload_n 0, 1) := dk_42 (dk_at dksX4_follows_13 5 rfl rfl)
theorem dX4_follows_305 : decode cX4_follows 305 = .ok (.iload_n 2, 1) := dk_28 (dk_at dksX4_follows_13 6 rfl rfl)
theorem dX4_follows_306 : decode cX4_follows 306 = .ok (.invokevirtual 87, 3) := dk_182 0 87 (dk_at dksX4_follows_13 7 rfl rfl)
theorem dX4_follows_309 : decode cX4_follows 309 = .ok (.iload 4, 2) := dk_21 4 (dk_at dksX4_follows_13 10 rfl rfl)
theorem dX4_follows_311 : decode cX4_follows 311 = .ok (.invokestatic 180, 3) := dk_184 0 180 (dk_at dksX4_follows_13 12 rfl rfl)
theorem dX4_follows_314 : decode cX4_follows 314 = .ok (.invokevirtual 184, 3) := dk_182 0 184 (dk_at dksX4_follows_13 15 rfl rfl)
theorem dX4_follows_317 : decode cX4_follows 317 = .ok (.istore 8, 2) := dk_54 8 (dk_at dksX4_follows_13 18 rfl rfl)
theorem dX4_follows_319 : decode cX4_follows 319 = .ok (.aload_n 0, 1) := dk_42 (dk_at dksX4_follows_13 20 rfl rfl)
theorem dX4_follows_320 : decode cX4_follows 320 = .ok (.aload_n 1, 1) := dk_43 (dk_at dksX4_follows_13 21 rfl rfl)
theorem dX4_follows_321 : decode cX4_follows 321 = .ok (.iconst 4, 1) := dk_7 (dk_at dksX4_follows_13 22 rfl rfl)
theorem dX4_follows_322 : decode cX4_follows 322 = .ok (.iconst 4, 1) := dk_7 (dk_at dksX4_follows_13 23 rfl rfl)
theorem dX4_follows_323 : decode cX4_follows 323 = .ok (.iload 8, 2) := dk_21 8 (dk_at dksX4_follows_14 0 rfl rfl)
theorem dX4_follows_325 : decode cX4_follows 325 = .ok (.imul, 1) := dk_104 (dk_at dksX4_follows_14 2 rfl rfl)
theorem dX4_follows_326 : decode cX4_follows 326 = .ok (.iadd, 1) := dk_96 (dk_at dksX4_follows_14 3 rfl rfl)
theorem dX4_follows_327 : decode cX4_follows 327 = .ok (.iload 6, 2) := dk_21 6 (dk_at dksX4_follows_14 4 rfl rfl)
theorem dX4_follows_329 : decode cX4_follows 329 = .ok (.invokevirtual 202, 3) := dk_182 0 202 (dk_at dksX4_follows_14 6 rfl rfl)
theorem dX4_follows_332 : decode cX4_follows 332 = .ok (.aload_n 0, 1) := dk_42 (dk_at dksX4_follows_14 9 rfl rfl)
theorem dX4_follows_333 : decode cX4_follows 333 = .ok (.aload_n 1, 1) := dk_43 (dk_at dksX4_follows_14 10 rfl rfl)
theorem dX4_follows_334 : decode cX4_follows 334 = .ok (.iload 5, 2) := dk_21 5 (dk_at dksX4_follows_14 11 rfl rfl)
theorem dX4_follows_336 : decode cX4_follows 336 = .ok (.iconst 4, 1) := dk_7 (dk_at dksX4_follows_14 13 rfl rfl)
theorem dX4_follows_337 : decode cX4_follows 337 = .ok (.iconst 4, 1) := dk_7 (dk_at dksX4_follows_14 14 rfl rfl)
theorem dX4_follows_338 : decode cX4_follows 338 = .ok (.iload 8, 2) := dk_21 8 (dk_at dksX4_follows_14 15 rfl rfl)
theorem dX4_follows_340 : decode cX4_follows 340 = .ok (.imul, 1) := dk_104 (dk_at dksX4_follows_14 17 rfl rfl)
theorem dX4_follows_341 : decode cX4_follows 341 = .ok (.iadd, 1) := dk_96 (dk_at dksX4_follows_14 18 rfl rfl)
theorem dX4_follows_342 : decode cX4_follows 342 = .ok (.iconst 1, 1) := dk_4 (dk_at dksX4_follows_14 19 rfl rfl)
theorem dX4_follows_343 : decode cX4_follows 343 = .ok (.iadd, 1) := dk_96 (dk_at dksX4_follows_14 20 rfl rfl)
theorem dX4_follows_344 : decode cX4_follows 344 = .ok (.invokevirtual 202, 3) := dk_182 0 202 (dk_at dksX4_follows_14 21 rfl rfl)
theorem dX4_follows_347 : decode cX4_follows 347 = .ok (.goto 3, 3) := dk_167 0 3 (dk_at dksX4_follows_15 0 rfl rfl)
theorem dX4_follows_350 : decode cX4_follows 350 = .ok (.return_, 1) := dk_177 (dk_at dksX4_follows_15 3 rfl rfl)
abbrev cX4_cellOf : ByteArray := prog_21_method_39_code
def yX4_cellOf : MethodName := ⟨RX4, "cellOf", "(II)I"⟩
def dkwX4_cellOf_0 : List UInt8 := [26, 7, 162, 0, 7, 26, 167, 0, 12, 7, 7, 27, 104, 96, 26, 7, 112, 96, 172]
abbrev dktX4_cellOf_0 : List UInt8 := dkwX4_cellOf_0 ++ []
theorem dksX4_cellOf_0 : cX4_cellOf.data.toList.drop 0 = dktX4_cellOf_0 := by decide +kernel
theorem dX4_cellOf_0 : decode cX4_cellOf 0 = .ok (.iload_n 0, 1) := dk_26 (dk_at dksX4_cellOf_0 0 rfl rfl)
theorem dX4_cellOf_1 : decode cX4_cellOf 1 = .ok (.iconst 4, 1) := dk_7 (dk_at dksX4_cellOf_0 1 rfl rfl)
theorem dX4_cellOf_2 : decode cX4_cellOf 2 = .ok (.if_icmp .ge 7, 3) := dk_162 0 7 (dk_at dksX4_cellOf_0 2 rfl rfl)
theorem dX4_cellOf_5 : decode cX4_cellOf 5 = .ok (.iload_n 0, 1) := dk_26 (dk_at dksX4_cellOf_0 5 rfl rfl)
theorem dX4_cellOf_6 : decode cX4_cellOf 6 = .ok (.goto 12, 3) := dk_167 0 12 (dk_at dksX4_cellOf_0 6 rfl rfl)
theorem dX4_cellOf_9 : decode cX4_cellOf 9 = .ok (.iconst 4, 1) := dk_7 (dk_at dksX4_cellOf_0 9 rfl rfl)
theorem dX4_cellOf_10 : decode cX4_cellOf 10 = .ok (.iconst 4, 1) := dk_7 (dk_at dksX4_cellOf_0 10 rfl rfl)
theorem dX4_cellOf_11 : decode cX4_cellOf 11 = .ok (.iload_n 1, 1) := dk_27 (dk_at dksX4_cellOf_0 11 rfl rfl)
theorem dX4_cellOf_12 : decode cX4_cellOf 12 = .ok (.imul, 1) := dk_104 (dk_at dksX4_cellOf_0 12 rfl rfl)
theorem dX4_cellOf_13 : decode cX4_cellOf 13 = .ok (.iadd, 1) := dk_96 (dk_at dksX4_cellOf_0 13 rfl rfl)
theorem dX4_cellOf_14 : decode cX4_cellOf 14 = .ok (.iload_n 0, 1) := dk_26 (dk_at dksX4_cellOf_0 14 rfl rfl)
theorem dX4_cellOf_15 : decode cX4_cellOf 15 = .ok (.iconst 4, 1) := dk_7 (dk_at dksX4_cellOf_0 15 rfl rfl)
theorem dX4_cellOf_16 : decode cX4_cellOf 16 = .ok (.irem, 1) := dk_112 (dk_at dksX4_cellOf_0 16 rfl rfl)
theorem dX4_cellOf_17 : decode cX4_cellOf 17 = .ok (.iadd, 1) := dk_96 (dk_at dksX4_cellOf_0 17 rfl rfl)
theorem dX4_cellOf_18 : decode cX4_cellOf 18 = .ok (.ireturn, 1) := dk_172 (dk_at dksX4_cellOf_0 18 rfl rfl)
abbrev cX4_adds : ByteArray := prog_21_method_41_code
def yX4_adds : MethodName := ⟨RX4, "adds", "(II)V"⟩
def dkwX4_adds_1 : List UInt8 := [96, 92, 47, 10, 28, 16, 64, 112, 121, 129, 80, 42, 4, 181, 0, 191, 177]
abbrev dktX4_adds_1 : List UInt8 := dkwX4_adds_1 ++ []
def dkwX4_adds_0 : List UInt8 := [42, 180, 0, 38, 27, 28, 184, 0, 187, 153, 0, 4, 177, 42, 180, 0, 38, 6, 27, 104, 28, 16, 64, 108]
abbrev dktX4_adds_0 : List UInt8 := dkwX4_adds_0 ++ dktX4_adds_1
theorem dksX4_adds_0 : cX4_adds.data.toList.drop 0 = dktX4_adds_0 := by decide +kernel
theorem dksX4_adds_1 : cX4_adds.data.toList.drop 24 = dktX4_adds_1 := dk_seg dksX4_adds_0 24 rfl rfl
theorem dX4_adds_0 : decode cX4_adds 0 = .ok (.aload_n 0, 1) := dk_42 (dk_at dksX4_adds_0 0 rfl rfl)
theorem dX4_adds_1 : decode cX4_adds 1 = .ok (.getfield 38, 3) := dk_180 0 38 (dk_at dksX4_adds_0 1 rfl rfl)
theorem dX4_adds_4 : decode cX4_adds 4 = .ok (.iload_n 1, 1) := dk_27 (dk_at dksX4_adds_0 4 rfl rfl)
theorem dX4_adds_5 : decode cX4_adds 5 = .ok (.iload_n 2, 1) := dk_28 (dk_at dksX4_adds_0 5 rfl rfl)
theorem dX4_adds_6 : decode cX4_adds 6 = .ok (.invokestatic 187, 3) := dk_184 0 187 (dk_at dksX4_adds_0 6 rfl rfl)
theorem dX4_adds_9 : decode cX4_adds 9 = .ok (.ifCond .eq 4, 3) := dk_153 0 4 (dk_at dksX4_adds_0 9 rfl rfl)
theorem dX4_adds_12 : decode cX4_adds 12 = .ok (.return_, 1) := dk_177 (dk_at dksX4_adds_0 12 rfl rfl)
theorem dX4_adds_13 : decode cX4_adds 13 = .ok (.aload_n 0, 1) := dk_42 (dk_at dksX4_adds_0 13 rfl rfl)
theorem dX4_adds_14 : decode cX4_adds 14 = .ok (.getfield 38, 3) := dk_180 0 38 (dk_at dksX4_adds_0 14 rfl rfl)
theorem dX4_adds_17 : decode cX4_adds 17 = .ok (.iconst 3, 1) := dk_6 (dk_at dksX4_adds_0 17 rfl rfl)
theorem dX4_adds_18 : decode cX4_adds 18 = .ok (.iload_n 1, 1) := dk_27 (dk_at dksX4_adds_0 18 rfl rfl)
theorem dX4_adds_19 : decode cX4_adds 19 = .ok (.imul, 1) := dk_104 (dk_at dksX4_adds_0 19 rfl rfl)
theorem dX4_adds_20 : decode cX4_adds 20 = .ok (.iload_n 2, 1) := dk_28 (dk_at dksX4_adds_0 20 rfl rfl)
theorem dX4_adds_21 : decode cX4_adds 21 = .ok (.bipush 64, 2) := dk_16 64 (dk_at dksX4_adds_0 21 rfl rfl)
theorem dX4_adds_23 : decode cX4_adds 23 = .ok (.idiv, 1) := dk_108 (dk_at dksX4_adds_0 23 rfl rfl)
theorem dX4_adds_24 : decode cX4_adds 24 = .ok (.iadd, 1) := dk_96 (dk_at dksX4_adds_1 0 rfl rfl)
theorem dX4_adds_25 : decode cX4_adds 25 = .ok (.dup2, 1) := dk_92 (dk_at dksX4_adds_1 1 rfl rfl)
theorem dX4_adds_26 : decode cX4_adds 26 = .ok (.laload, 1) := dk_47 (dk_at dksX4_adds_1 2 rfl rfl)
theorem dX4_adds_27 : decode cX4_adds 27 = .ok (.lconst 1, 1) := dk_10 (dk_at dksX4_adds_1 3 rfl rfl)
theorem dX4_adds_28 : decode cX4_adds 28 = .ok (.iload_n 2, 1) := dk_28 (dk_at dksX4_adds_1 4 rfl rfl)
theorem dX4_adds_29 : decode cX4_adds 29 = .ok (.bipush 64, 2) := dk_16 64 (dk_at dksX4_adds_1 5 rfl rfl)
theorem dX4_adds_31 : decode cX4_adds 31 = .ok (.irem, 1) := dk_112 (dk_at dksX4_adds_1 7 rfl rfl)
theorem dX4_adds_32 : decode cX4_adds 32 = .ok (.lshl, 1) := dk_121 (dk_at dksX4_adds_1 8 rfl rfl)
theorem dX4_adds_33 : decode cX4_adds 33 = .ok (.lor, 1) := dk_129 (dk_at dksX4_adds_1 9 rfl rfl)
theorem dX4_adds_34 : decode cX4_adds 34 = .ok (.lastore, 1) := dk_80 (dk_at dksX4_adds_1 10 rfl rfl)
theorem dX4_adds_35 : decode cX4_adds 35 = .ok (.aload_n 0, 1) := dk_42 (dk_at dksX4_adds_1 11 rfl rfl)
theorem dX4_adds_36 : decode cX4_adds 36 = .ok (.iconst 1, 1) := dk_4 (dk_at dksX4_adds_1 12 rfl rfl)
theorem dX4_adds_37 : decode cX4_adds 37 = .ok (.putfield 191, 3) := dk_181 0 191 (dk_at dksX4_adds_1 13 rfl rfl)
theorem dX4_adds_40 : decode cX4_adds 40 = .ok (.return_, 1) := dk_177 (dk_at dksX4_adds_1 16 rfl rfl)
abbrev cX4_isIn : ByteArray := prog_21_method_38_code
def yX4_isIn : MethodName := ⟨RX4, "isIn", "([JII)Z"⟩
def dkwX4_isIn_1 : List UInt8 := [167, 0, 4, 3, 172]
abbrev dktX4_isIn_1 : List UInt8 := dkwX4_isIn_1 ++ []
def dkwX4_isIn_0 : List UInt8 := [42, 6, 27, 104, 28, 16, 64, 108, 96, 47, 28, 16, 64, 112, 123, 10, 127, 10, 148, 154, 0, 7, 4]
abbrev dktX4_isIn_0 : List UInt8 := dkwX4_isIn_0 ++ dktX4_isIn_1
theorem dksX4_isIn_0 : cX4_isIn.data.toList.drop 0 = dktX4_isIn_0 := by decide +kernel
theorem dksX4_isIn_1 : cX4_isIn.data.toList.drop 23 = dktX4_isIn_1 := dk_seg dksX4_isIn_0 23 rfl rfl
theorem dX4_isIn_0 : decode cX4_isIn 0 = .ok (.aload_n 0, 1) := dk_42 (dk_at dksX4_isIn_0 0 rfl rfl)
theorem dX4_isIn_1 : decode cX4_isIn 1 = .ok (.iconst 3, 1) := dk_6 (dk_at dksX4_isIn_0 1 rfl rfl)
theorem dX4_isIn_2 : decode cX4_isIn 2 = .ok (.iload_n 1, 1) := dk_27 (dk_at dksX4_isIn_0 2 rfl rfl)
theorem dX4_isIn_3 : decode cX4_isIn 3 = .ok (.imul, 1) := dk_104 (dk_at dksX4_isIn_0 3 rfl rfl)
theorem dX4_isIn_4 : decode cX4_isIn 4 = .ok (.iload_n 2, 1) := dk_28 (dk_at dksX4_isIn_0 4 rfl rfl)
theorem dX4_isIn_5 : decode cX4_isIn 5 = .ok (.bipush 64, 2) := dk_16 64 (dk_at dksX4_isIn_0 5 rfl rfl)
theorem dX4_isIn_7 : decode cX4_isIn 7 = .ok (.idiv, 1) := dk_108 (dk_at dksX4_isIn_0 7 rfl rfl)
theorem dX4_isIn_8 : decode cX4_isIn 8 = .ok (.iadd, 1) := dk_96 (dk_at dksX4_isIn_0 8 rfl rfl)
theorem dX4_isIn_9 : decode cX4_isIn 9 = .ok (.laload, 1) := dk_47 (dk_at dksX4_isIn_0 9 rfl rfl)
theorem dX4_isIn_10 : decode cX4_isIn 10 = .ok (.iload_n 2, 1) := dk_28 (dk_at dksX4_isIn_0 10 rfl rfl)
theorem dX4_isIn_11 : decode cX4_isIn 11 = .ok (.bipush 64, 2) := dk_16 64 (dk_at dksX4_isIn_0 11 rfl rfl)
theorem dX4_isIn_13 : decode cX4_isIn 13 = .ok (.irem, 1) := dk_112 (dk_at dksX4_isIn_0 13 rfl rfl)
theorem dX4_isIn_14 : decode cX4_isIn 14 = .ok (.lshr, 1) := dk_123 (dk_at dksX4_isIn_0 14 rfl rfl)
theorem dX4_isIn_15 : decode cX4_isIn 15 = .ok (.lconst 1, 1) := dk_10 (dk_at dksX4_isIn_0 15 rfl rfl)
theorem dX4_isIn_16 : decode cX4_isIn 16 = .ok (.land, 1) := dk_127 (dk_at dksX4_isIn_0 16 rfl rfl)
theorem dX4_isIn_17 : decode cX4_isIn 17 = .ok (.lconst 1, 1) := dk_10 (dk_at dksX4_isIn_0 17 rfl rfl)
theorem dX4_isIn_18 : decode cX4_isIn 18 = .ok (.lcmp, 1) := dk_148 (dk_at dksX4_isIn_0 18 rfl rfl)
theorem dX4_isIn_19 : decode cX4_isIn 19 = .ok (.ifCond .ne 7, 3) := dk_154 0 7 (dk_at dksX4_isIn_0 19 rfl rfl)
theorem dX4_isIn_22 : decode cX4_isIn 22 = .ok (.iconst 1, 1) := dk_4 (dk_at dksX4_isIn_0 22 rfl rfl)
theorem dX4_isIn_23 : decode cX4_isIn 23 = .ok (.goto 4, 3) := dk_167 0 4 (dk_at dksX4_isIn_1 0 rfl rfl)
theorem dX4_isIn_26 : decode cX4_isIn 26 = .ok (.iconst 0, 1) := dk_3 (dk_at dksX4_isIn_1 3 rfl rfl)
theorem dX4_isIn_27 : decode cX4_isIn 27 = .ok (.ireturn, 1) := dk_172 (dk_at dksX4_isIn_1 4 rfl rfl)
abbrev cX4_addsAll : ByteArray := prog_21_method_42_code
def yX4_addsAll : MethodName := ⟨RX4, "addsAll", "([JII)V"⟩
def dkwX4_addsAll_3 : List UInt8 := [167, 255, 190, 177]
abbrev dktX4_addsAll_3 : List UInt8 := dkwX4_addsAll_3 ++ []
def dkwX4_addsAll_2 : List UInt8 := [180, 0, 38, 6, 28, 104, 21, 4, 96, 92, 47, 22, 5, 129, 80, 42, 4, 181, 0, 191, 132, 4, 1]
abbrev dktX4_addsAll_2 : List UInt8 := dkwX4_addsAll_2 ++ dktX4_addsAll_3
def dkwX4_addsAll_1 : List UInt8 := [21, 4, 96, 47, 20, 0, 194, 131, 127, 55, 5, 22, 5, 9, 148, 154, 0, 6, 167, 0, 24, 42]
abbrev dktX4_addsAll_1 : List UInt8 := dkwX4_addsAll_1 ++ dktX4_addsAll_2
def dkwX4_addsAll_0 : List UInt8 := [3, 54, 4, 21, 4, 6, 162, 0, 66, 43, 6, 29, 104, 21, 4, 96, 47, 42, 180, 0, 38, 6, 28, 104]
abbrev dktX4_addsAll_0 : List UInt8 := dkwX4_addsAll_0 ++ dktX4_addsAll_1
theorem dksX4_addsAll_0 : cX4_addsAll.data.toList.drop 0 = dktX4_addsAll_0 := by decide +kernel
theorem dksX4_addsAll_1 : cX4_addsAll.data.toList.drop 24 = dktX4_addsAll_1 := dk_seg dksX4_addsAll_0 24 rfl rfl
theorem dksX4_addsAll_2 : cX4_addsAll.data.toList.drop 46 = dktX4_addsAll_2 := dk_seg dksX4_addsAll_1 22 rfl rfl
theorem dksX4_addsAll_3 : cX4_addsAll.data.toList.drop 69 = dktX4_addsAll_3 := dk_seg dksX4_addsAll_2 23 rfl rfl
theorem dX4_addsAll_0 : decode cX4_addsAll 0 = .ok (.iconst 0, 1) := dk_3 (dk_at dksX4_addsAll_0 0 rfl rfl)
theorem dX4_addsAll_1 : decode cX4_addsAll 1 = .ok (.istore 4, 2) := dk_54 4 (dk_at dksX4_addsAll_0 1 rfl rfl)
theorem dX4_addsAll_3 : decode cX4_addsAll 3 = .ok (.iload 4, 2) := dk_21 4 (dk_at dksX4_addsAll_0 3 rfl rfl)
theorem dX4_addsAll_5 : decode cX4_addsAll 5 = .ok (.iconst 3, 1) := dk_6 (dk_at dksX4_addsAll_0 5 rfl rfl)
theorem dX4_addsAll_6 : decode cX4_addsAll 6 = .ok (.if_icmp .ge 66, 3) := dk_162 0 66 (dk_at dksX4_addsAll_0 6 rfl rfl)
theorem dX4_addsAll_9 : decode cX4_addsAll 9 = .ok (.aload_n 1, 1) := dk_43 (dk_at dksX4_addsAll_0 9 rfl rfl)
theorem dX4_addsAll_10 : decode cX4_addsAll 10 = .ok (.iconst 3, 1) := dk_6 (dk_at dksX4_addsAll_0 10 rfl rfl)
theorem dX4_addsAll_11 : decode cX4_addsAll 11 = .ok (.iload_n 3, 1) := dk_29 (dk_at dksX4_addsAll_0 11 rfl rfl)
theorem dX4_addsAll_12 : decode cX4_addsAll 12 = .ok (.imul, 1) := dk_104 (dk_at dksX4_addsAll_0 12 rfl rfl)
theorem dX4_addsAll_13 : decode cX4_addsAll 13 = .ok (.iload 4, 2) := dk_21 4 (dk_at dksX4_addsAll_0 13 rfl rfl)
theorem dX4_addsAll_15 : decode cX4_addsAll 15 = .ok (.iadd, 1) := dk_96 (dk_at dksX4_addsAll_0 15 rfl rfl)
theorem dX4_addsAll_16 : decode cX4_addsAll 16 = .ok (.laload, 1) := dk_47 (dk_at dksX4_addsAll_0 16 rfl rfl)
theorem dX4_addsAll_17 : decode cX4_addsAll 17 = .ok (.aload_n 0, 1) := dk_42 (dk_at dksX4_addsAll_0 17 rfl rfl)
theorem dX4_addsAll_18 : decode cX4_addsAll 18 = .ok (.getfield 38, 3) := dk_180 0 38 (dk_at dksX4_addsAll_0 18 rfl rfl)
theorem dX4_addsAll_21 : decode cX4_addsAll 21 = .ok (.iconst 3, 1) := dk_6 (dk_at dksX4_addsAll_0 21 rfl rfl)
theorem dX4_addsAll_22 : decode cX4_addsAll 22 = .ok (.iload_n 2, 1) := dk_28 (dk_at dksX4_addsAll_0 22 rfl rfl)
theorem dX4_addsAll_23 : decode cX4_addsAll 23 = .ok (.imul, 1) := dk_104 (dk_at dksX4_addsAll_0 23 rfl rfl)
theorem dX4_addsAll_24 : decode cX4_addsAll 24 = .ok (.iload 4, 2) := dk_21 4 (dk_at dksX4_addsAll_1 0 rfl rfl)
theorem dX4_addsAll_26 : decode cX4_addsAll 26 = .ok (.iadd, 1) := dk_96 (dk_at dksX4_addsAll_1 2 rfl rfl)
theorem dX4_addsAll_27 : decode cX4_addsAll 27 = .ok (.laload, 1) := dk_47 (dk_at dksX4_addsAll_1 3 rfl rfl)
theorem dX4_addsAll_28 : decode cX4_addsAll 28 = .ok (.ldc2_w 194, 3) := dk_20 0 194 (dk_at dksX4_addsAll_1 4 rfl rfl)
theorem dX4_addsAll_31 : decode cX4_addsAll 31 = .ok (.lxor, 1) := dk_131 (dk_at dksX4_addsAll_1 7 rfl rfl)
theorem dX4_addsAll_32 : decode cX4_addsAll 32 = .ok (.land, 1) := dk_127 (dk_at dksX4_addsAll_1 8 rfl rfl)
theorem dX4_addsAll_33 : decode cX4_addsAll 33 = .ok (.lstore 5, 2) := dk_55 5 (dk_at dksX4_addsAll_1 9 rfl rfl)
theorem dX4_addsAll_35 : decode cX4_addsAll 35 = .ok (.lload 5, 2) := dk_22 5 (dk_at dksX4_addsAll_1 11 rfl rfl)
theorem dX4_addsAll_37 : decode cX4_addsAll 37 = .ok (.lconst 0, 1) := dk_9 (dk_at dksX4_addsAll_1 13 rfl rfl)
theorem dX4_addsAll_38 : decode cX4_addsAll 38 = .ok (.lcmp, 1) := dk_148 (dk_at dksX4_addsAll_1 14 rfl rfl)
theorem dX4_addsAll_39 : decode cX4_addsAll 39 = .ok (.ifCond .ne 6, 3) := dk_154 0 6 (dk_at dksX4_addsAll_1 15 rfl rfl)
theorem dX4_addsAll_42 : decode cX4_addsAll 42 = .ok (.goto 24, 3) := dk_167 0 24 (dk_at dksX4_addsAll_1 18 rfl rfl)
theorem dX4_addsAll_45 : decode cX4_addsAll 45 = .ok (.aload_n 0, 1) := dk_42 (dk_at dksX4_addsAll_1 21 rfl rfl)
theorem dX4_addsAll_46 : decode cX4_addsAll 46 = .ok (.getfield 38, 3) := dk_180 0 38 (dk_at dksX4_addsAll_2 0 rfl rfl)
theorem dX4_addsAll_49 : decode cX4_addsAll 49 = .ok (.iconst 3, 1) := dk_6 (dk_at dksX4_addsAll_2 3 rfl rfl)
theorem dX4_addsAll_50 : decode cX4_addsAll 50 = .ok (.iload_n 2, 1) := dk_28 (dk_at dksX4_addsAll_2 4 rfl rfl)
theorem dX4_addsAll_51 : decode cX4_addsAll 51 = .ok (.imul, 1) := dk_104 (dk_at dksX4_addsAll_2 5 rfl rfl)
theorem dX4_addsAll_52 : decode cX4_addsAll 52 = .ok (.iload 4, 2) := dk_21 4 (dk_at dksX4_addsAll_2 6 rfl rfl)
theorem dX4_addsAll_54 : decode cX4_addsAll 54 = .ok (.iadd, 1) := dk_96 (dk_at dksX4_addsAll_2 8 rfl rfl)
theorem dX4_addsAll_55 : decode cX4_addsAll 55 = .ok (.dup2, 1) := dk_92 (dk_at dksX4_addsAll_2 9 rfl rfl)
theorem dX4_addsAll_56 : decode cX4_addsAll 56 = .ok (.laload, 1) := dk_47 (dk_at dksX4_addsAll_2 10 rfl rfl)
theorem dX4_addsAll_57 : decode cX4_addsAll 57 = .ok (.lload 5, 2) := dk_22 5 (dk_at dksX4_addsAll_2 11 rfl rfl)
theorem dX4_addsAll_59 : decode cX4_addsAll 59 = .ok (.lor, 1) := dk_129 (dk_at dksX4_addsAll_2 13 rfl rfl)
theorem dX4_addsAll_60 : decode cX4_addsAll 60 = .ok (.lastore, 1) := dk_80 (dk_at dksX4_addsAll_2 14 rfl rfl)
theorem dX4_addsAll_61 : decode cX4_addsAll 61 = .ok (.aload_n 0, 1) := dk_42 (dk_at dksX4_addsAll_2 15 rfl rfl)
theorem dX4_addsAll_62 : decode cX4_addsAll 62 = .ok (.iconst 1, 1) := dk_4 (dk_at dksX4_addsAll_2 16 rfl rfl)
theorem dX4_addsAll_63 : decode cX4_addsAll 63 = .ok (.putfield 191, 3) := dk_181 0 191 (dk_at dksX4_addsAll_2 17 rfl rfl)
theorem dX4_addsAll_66 : decode cX4_addsAll 66 = .ok (.iinc 4 1, 3) := dk_132 4 1 (dk_at dksX4_addsAll_2 20 rfl rfl)
theorem dX4_addsAll_69 : decode cX4_addsAll 69 = .ok (.goto (-66), 3) := dk_167 255 190 (dk_at dksX4_addsAll_3 0 rfl rfl)
theorem dX4_addsAll_72 : decode cX4_addsAll 72 = .ok (.return_, 1) := dk_177 (dk_at dksX4_addsAll_3 3 rfl rfl)
abbrev cX4_siteOf : ByteArray := prog_21_method_13_code
def yX4_siteOf : MethodName := ⟨RX4, "siteOf", "(I)I"⟩
def dkwX4_siteOf_1 : List UInt8 := [7, 160, 0, 7, 4, 167, 0, 4, 3, 96, 61, 132, 3, 1, 167, 255, 222, 28, 172]
abbrev dktX4_siteOf_1 : List UInt8 := dkwX4_siteOf_1 ++ []
def dkwX4_siteOf_0 : List UInt8 := [3, 61, 3, 62, 29, 42, 27, 182, 0, 87, 162, 0, 31, 28, 42, 180, 0, 7, 42, 29, 182, 0, 91, 46]
abbrev dktX4_siteOf_0 : List UInt8 := dkwX4_siteOf_0 ++ dktX4_siteOf_1
theorem dksX4_siteOf_0 : cX4_siteOf.data.toList.drop 0 = dktX4_siteOf_0 := by decide +kernel
theorem dksX4_siteOf_1 : cX4_siteOf.data.toList.drop 24 = dktX4_siteOf_1 := dk_seg dksX4_siteOf_0 24 rfl rfl
theorem dX4_siteOf_0 : decode cX4_siteOf 0 = .ok (.iconst 0, 1) := dk_3 (dk_at dksX4_siteOf_0 0 rfl rfl)
theorem dX4_siteOf_1 : decode cX4_siteOf 1 = .ok (.istore_n 2, 1) := dk_61 (dk_at dksX4_siteOf_0 1 rfl rfl)
theorem dX4_siteOf_2 : decode cX4_siteOf 2 = .ok (.iconst 0, 1) := dk_3 (dk_at dksX4_siteOf_0 2 rfl rfl)
theorem dX4_siteOf_3 : decode cX4_siteOf 3 = .ok (.istore_n 3, 1) := dk_62 (dk_at dksX4_siteOf_0 3 rfl rfl)
theorem dX4_siteOf_4 : decode cX4_siteOf 4 = .ok (.iload_n 3, 1) := dk_29 (dk_at dksX4_siteOf_0 4 rfl rfl)
theorem dX4_siteOf_5 : decode cX4_siteOf 5 = .ok (.aload_n 0, 1) := dk_42 (dk_at dksX4_siteOf_0 5 rfl rfl)
theorem dX4_siteOf_6 : decode cX4_siteOf 6 = .ok (.iload_n 1, 1) := dk_27 (dk_at dksX4_siteOf_0 6 rfl rfl)
theorem dX4_siteOf_7 : decode cX4_siteOf 7 = .ok (.invokevirtual 87, 3) := dk_182 0 87 (dk_at dksX4_siteOf_0 7 rfl rfl)
theorem dX4_siteOf_10 : decode cX4_siteOf 10 = .ok (.if_icmp .ge 31, 3) := dk_162 0 31 (dk_at dksX4_siteOf_0 10 rfl rfl)
theorem dX4_siteOf_13 : decode cX4_siteOf 13 = .ok (.iload_n 2, 1) := dk_28 (dk_at dksX4_siteOf_0 13 rfl rfl)
theorem dX4_siteOf_14 : decode cX4_siteOf 14 = .ok (.aload_n 0, 1) := dk_42 (dk_at dksX4_siteOf_0 14 rfl rfl)
theorem dX4_siteOf_15 : decode cX4_siteOf 15 = .ok (.getfield 7, 3) := dk_180 0 7 (dk_at dksX4_siteOf_0 15 rfl rfl)
theorem dX4_siteOf_18 : decode cX4_siteOf 18 = .ok (.aload_n 0, 1) := dk_42 (dk_at dksX4_siteOf_0 18 rfl rfl)
theorem dX4_siteOf_19 : decode cX4_siteOf 19 = .ok (.iload_n 3, 1) := dk_29 (dk_at dksX4_siteOf_0 19 rfl rfl)
theorem dX4_siteOf_20 : decode cX4_siteOf 20 = .ok (.invokevirtual 91, 3) := dk_182 0 91 (dk_at dksX4_siteOf_0 20 rfl rfl)
theorem dX4_siteOf_23 : decode cX4_siteOf 23 = .ok (.iaload, 1) := dk_46 (dk_at dksX4_siteOf_0 23 rfl rfl)
theorem dX4_siteOf_24 : decode cX4_siteOf 24 = .ok (.iconst 4, 1) := dk_7 (dk_at dksX4_siteOf_1 0 rfl rfl)
theorem dX4_siteOf_25 : decode cX4_siteOf 25 = .ok (.if_icmp .ne 7, 3) := dk_160 0 7 (dk_at dksX4_siteOf_1 1 rfl rfl)
theorem dX4_siteOf_28 : decode cX4_siteOf 28 = .ok (.iconst 1, 1) := dk_4 (dk_at dksX4_siteOf_1 4 rfl rfl)
theorem dX4_siteOf_29 : decode cX4_siteOf 29 = .ok (.goto 4, 3) := dk_167 0 4 (dk_at dksX4_siteOf_1 5 rfl rfl)
theorem dX4_siteOf_32 : decode cX4_siteOf 32 = .ok (.iconst 0, 1) := dk_3 (dk_at dksX4_siteOf_1 8 rfl rfl)
theorem dX4_siteOf_33 : decode cX4_siteOf 33 = .ok (.iadd, 1) := dk_96 (dk_at dksX4_siteOf_1 9 rfl rfl)
theorem dX4_siteOf_34 : decode cX4_siteOf 34 = .ok (.istore_n 2, 1) := dk_61 (dk_at dksX4_siteOf_1 10 rfl rfl)
theorem dX4_siteOf_35 : decode cX4_siteOf 35 = .ok (.iinc 3 1, 3) := dk_132 3 1 (dk_at dksX4_siteOf_1 11 rfl rfl)
theorem dX4_siteOf_38 : decode cX4_siteOf 38 = .ok (.goto (-34), 3) := dk_167 255 222 (dk_at dksX4_siteOf_1 14 rfl rfl)
theorem dX4_siteOf_41 : decode cX4_siteOf 41 = .ok (.iload_n 2, 1) := dk_28 (dk_at dksX4_siteOf_1 17 rfl rfl)
theorem dX4_siteOf_42 : decode cX4_siteOf 42 = .ok (.ireturn, 1) := dk_172 (dk_at dksX4_siteOf_1 18 rfl rfl)
abbrev cX4_notes : ByteArray := prog_21_method_45_code
def yX4_notes : MethodName := ⟨RX4, "notes", "(II)V"⟩
def dkwX4_notes_4 : List UInt8 := [177]
abbrev dktX4_notes_4 : List UInt8 := dkwX4_notes_4 ++ []
def dkwX4_notes_3 : List UInt8 := [21, 5, 28, 79, 42, 180, 0, 48, 21, 5, 27, 79, 132, 4, 1, 167, 255, 183, 132, 3, 1, 167, 255, 167]
abbrev dktX4_notes_3 : List UInt8 := dkwX4_notes_3 ++ dktX4_notes_4
def dkwX4_notes_2 : List UInt8 := [182, 0, 209, 96, 54, 5, 42, 180, 0, 45, 21, 5, 46, 158, 0, 6, 167, 0, 19, 42, 180, 0, 45]
abbrev dktX4_notes_2 : List UInt8 := dkwX4_notes_2 ++ dktX4_notes_3
def dkwX4_notes_1 : List UInt8 := [29, 21, 4, 184, 0, 187, 154, 0, 6, 167, 0, 49, 16, 44, 42, 29, 182, 0, 209, 104, 42, 21, 4]
abbrev dktX4_notes_1 : List UInt8 := dkwX4_notes_1 ++ dktX4_notes_2
def dkwX4_notes_0 : List UInt8 := [3, 62, 29, 17, 0, 152, 162, 0, 88, 3, 54, 4, 21, 4, 17, 0, 152, 162, 0, 71, 42, 180, 0, 38]
abbrev dktX4_notes_0 : List UInt8 := dkwX4_notes_0 ++ dktX4_notes_1
theorem dksX4_notes_0 : cX4_notes.data.toList.drop 0 = dktX4_notes_0 := by decide +kernel
theorem dksX4_notes_1 : cX4_notes.data.toList.drop 24 = dktX4_notes_1 := dk_seg dksX4_notes_0 24 rfl rfl
theorem dksX4_notes_2 : cX4_notes.data.toList.drop 47 = dktX4_notes_2 := dk_seg dksX4_notes_1 23 rfl rfl
theorem dksX4_notes_3 : cX4_notes.data.toList.drop 70 = dktX4_notes_3 := dk_seg dksX4_notes_2 23 rfl rfl
theorem dksX4_notes_4 : cX4_notes.data.toList.drop 94 = dktX4_notes_4 := dk_seg dksX4_notes_3 24 rfl rfl
theorem dX4_notes_0 : decode cX4_notes 0 = .ok (.iconst 0, 1) := dk_3 (dk_at dksX4_notes_0 0 rfl rfl)
theorem dX4_notes_1 : decode cX4_notes 1 = .ok (.istore_n 3, 1) := dk_62 (dk_at dksX4_notes_0 1 rfl rfl)
theorem dX4_notes_2 : decode cX4_notes 2 = .ok (.iload_n 3, 1) := dk_29 (dk_at dksX4_notes_0 2 rfl rfl)
theorem dX4_notes_3 : decode cX4_notes 3 = .ok (.sipush 152, 3) := dk_17 0 152 (dk_at dksX4_notes_0 3 rfl rfl)
theorem dX4_notes_6 : decode cX4_notes 6 = .ok (.if_icmp .ge 88, 3) := dk_162 0 88 (dk_at dksX4_notes_0 6 rfl rfl)
theorem dX4_notes_9 : decode cX4_notes 9 = .ok (.iconst 0, 1) := dk_3 (dk_at dksX4_notes_0 9 rfl rfl)
theorem dX4_notes_10 : decode cX4_notes 10 = .ok (.istore 4, 2) := dk_54 4 (dk_at dksX4_notes_0 10 rfl rfl)
theorem dX4_notes_12 : decode cX4_notes 12 = .ok (.iload 4, 2) := dk_21 4 (dk_at dksX4_notes_0 12 rfl rfl)
theorem dX4_notes_14 : decode cX4_notes 14 = .ok (.sipush 152, 3) := dk_17 0 152 (dk_at dksX4_notes_0 14 rfl rfl)
theorem dX4_notes_17 : decode cX4_notes 17 = .ok (.if_icmp .ge 71, 3) := dk_162 0 71 (dk_at dksX4_notes_0 17 rfl rfl)
theorem dX4_notes_20 : decode cX4_notes 20 = .ok (.aload_n 0, 1) := dk_42 (dk_at dksX4_notes_0 20 rfl rfl)
theorem dX4_notes_21 : decode cX4_notes 21 = .ok (.getfield 38, 3) := dk_180 0 38 (dk_at dksX4_notes_0 21 rfl rfl)
theorem dX4_notes_24 : decode cX4_notes 24 = .ok (.iload_n 3, 1) := dk_29 (dk_at dksX4_notes_1 0 rfl rfl)
theorem dX4_notes_25 : decode cX4_notes 25 = .ok (.iload 4, 2) := dk_21 4 (dk_at dksX4_notes_1 1 rfl rfl)
theorem dX4_notes_27 : decode cX4_notes 27 = .ok (.invokestatic 187, 3) := dk_184 0 187 (dk_at dksX4_notes_1 3 rfl rfl)
theorem dX4_notes_30 : decode cX4_notes 30 = .ok (.ifCond .ne 6, 3) := dk_154 0 6 (dk_at dksX4_notes_1 6 rfl rfl)
theorem dX4_notes_33 : decode cX4_notes 33 = .ok (.goto 49, 3) := dk_167 0 49 (dk_at dksX4_notes_1 9 rfl rfl)
theorem dX4_notes_36 : decode cX4_notes 36 = .ok (.bipush 44, 2) := dk_16 44 (dk_at dksX4_notes_1 12 rfl rfl)
theorem dX4_notes_38 : decode cX4_notes 38 = .ok (.aload_n 0, 1) := dk_42 (dk_at dksX4_notes_1 14 rfl rfl)
theorem dX4_notes_39 : decode cX4_notes 39 = .ok (.iload_n 3, 1) := dk_29 (dk_at dksX4_notes_1 15 rfl rfl)
theorem dX4_notes_40 : decode cX4_notes 40 = .ok (.invokevirtual 209, 3) := dk_182 0 209 (dk_at dksX4_notes_1 16 rfl rfl)
theorem dX4_notes_43 : decode cX4_notes 43 = .ok (.imul, 1) := dk_104 (dk_at dksX4_notes_1 19 rfl rfl)
theorem dX4_notes_44 : decode cX4_notes 44 = .ok (.aload_n 0, 1) := dk_42 (dk_at dksX4_notes_1 20 rfl rfl)
theorem dX4_notes_45 : decode cX4_notes 45 = .ok (.iload 4, 2) := dk_21 4 (dk_at dksX4_notes_1 21 rfl rfl)
theorem dX4_notes_47 : decode cX4_notes 47 = .ok (.invokevirtual 209, 3) := dk_182 0 209 (dk_at dksX4_notes_2 0 rfl rfl)
theorem dX4_notes_50 : decode cX4_notes 50 = .ok (.iadd, 1) := dk_96 (dk_at dksX4_notes_2 3 rfl rfl)
theorem dX4_notes_51 : decode cX4_notes 51 = .ok (.istore 5, 2) := dk_54 5 (dk_at dksX4_notes_2 4 rfl rfl)
theorem dX4_notes_53 : decode cX4_notes 53 = .ok (.aload_n 0, 1) := dk_42 (dk_at dksX4_notes_2 6 rfl rfl)
theorem dX4_notes_54 : decode cX4_notes 54 = .ok (.getfield 45, 3) := dk_180 0 45 (dk_at dksX4_notes_2 7 rfl rfl)
theorem dX4_notes_57 : decode cX4_notes 57 = .ok (.iload 5, 2) := dk_21 5 (dk_at dksX4_notes_2 10 rfl rfl)
theorem dX4_notes_59 : decode cX4_notes 59 = .ok (.iaload, 1) := dk_46 (dk_at dksX4_notes_2 12 rfl rfl)
theorem dX4_notes_60 : decode cX4_notes 60 = .ok (.ifCond .le 6, 3) := dk_158 0 6 (dk_at dksX4_notes_2 13 rfl rfl)
theorem dX4_notes_63 : decode cX4_notes 63 = .ok (.goto 19, 3) := dk_167 0 19 (dk_at dksX4_notes_2 16 rfl rfl)
theorem dX4_notes_66 : decode cX4_notes 66 = .ok (.aload_n 0, 1) := dk_42 (dk_at dksX4_notes_2 19 rfl rfl)
theorem dX4_notes_67 : decode cX4_notes 67 = .ok (.getfield 45, 3) := dk_180 0 45 (dk_at dksX4_notes_2 20 rfl rfl)
theorem dX4_notes_70 : decode cX4_notes 70 = .ok (.iload 5, 2) := dk_21 5 (dk_at dksX4_notes_3 0 rfl rfl)
theorem dX4_notes_72 : decode cX4_notes 72 = .ok (.iload_n 2, 1) := dk_28 (dk_at dksX4_notes_3 2 rfl rfl)
theorem dX4_notes_73 : decode cX4_notes 73 = .ok (.iastore, 1) := dk_79 (dk_at dksX4_notes_3 3 rfl rfl)
theorem dX4_notes_74 : decode cX4_notes 74 = .ok (.aload_n 0, 1) := dk_42 (dk_at dksX4_notes_3 4 rfl rfl)
theorem dX4_notes_75 : decode cX4_notes 75 = .ok (.getfield 48, 3) := dk_180 0 48 (dk_at dksX4_notes_3 5 rfl rfl)
theorem dX4_notes_78 : decode cX4_notes 78 = .ok (.iload 5, 2) := dk_21 5 (dk_at dksX4_notes_3 8 rfl rfl)
theorem dX4_notes_80 : decode cX4_notes 80 = .ok (.iload_n 1, 1) := dk_27 (dk_at dksX4_notes_3 10 rfl rfl)
theorem dX4_notes_81 : decode cX4_notes 81 = .ok (.iastore, 1) := dk_79 (dk_at dksX4_notes_3 11 rfl rfl)
theorem dX4_notes_82 : decode cX4_notes 82 = .ok (.iinc 4 1, 3) := dk_132 4 1 (dk_at dksX4_notes_3 12 rfl rfl)
theorem dX4_notes_85 : decode cX4_notes 85 = .ok (.goto (-73), 3) := dk_167 255 183 (dk_at dksX4_notes_3 15 rfl rfl)
theorem dX4_notes_88 : decode cX4_notes 88 = .ok (.iinc 3 1, 3) := dk_132 3 1 (dk_at dksX4_notes_3 18 rfl rfl)
theorem dX4_notes_91 : decode cX4_notes 91 = .ok (.goto (-89), 3) := dk_167 255 167 (dk_at dksX4_notes_3 21 rfl rfl)
theorem dX4_notes_94 : decode cX4_notes 94 = .ok (.return_, 1) := dk_177 (dk_at dksX4_notes_4 0 rfl rfl)
abbrev cX4_targetOf : ByteArray := prog_21_method_40_code
def yX4_targetOf : MethodName := ⟨RX4, "targetOf", "(I)I"⟩
def dkwX4_targetOf_1 : List UInt8 := [100, 7, 108, 46, 104, 96, 27, 7, 112, 96, 167, 0, 11, 16, 20, 27, 96, 17, 0, 128, 100, 172]
abbrev dktX4_targetOf_1 : List UInt8 := dkwX4_targetOf_1 ++ []
def dkwX4_targetOf_0 : List UInt8 := [27, 7, 162, 0, 7, 27, 167, 0, 39, 27, 17, 0, 128, 162, 0, 24, 7, 7, 42, 180, 0, 32, 27, 7]
abbrev dktX4_targetOf_0 : List UInt8 := dkwX4_targetOf_0 ++ dktX4_targetOf_1
theorem dksX4_targetOf_0 : cX4_targetOf.data.toList.drop 0 = dktX4_targetOf_0 := by decide +kernel
theorem dksX4_targetOf_1 : cX4_targetOf.data.toList.drop 24 = dktX4_targetOf_1 := dk_seg dksX4_targetOf_0 24 rfl rfl
theorem dX4_targetOf_0 : decode cX4_targetOf 0 = .ok (.iload_n 1, 1) := dk_27 (dk_at dksX4_targetOf_0 0 rfl rfl)
theorem dX4_targetOf_1 : decode cX4_targetOf 1 = .ok (.iconst 4, 1) := dk_7 (dk_at dksX4_targetOf_0 1 rfl rfl)
theorem dX4_targetOf_2 : decode cX4_targetOf 2 = .ok (.if_icmp .ge 7, 3) := dk_162 0 7 (dk_at dksX4_targetOf_0 2 rfl rfl)
theorem dX4_targetOf_5 : decode cX4_targetOf 5 = .ok (.iload_n 1, 1) := dk_27 (dk_at dksX4_targetOf_0 5 rfl rfl)
theorem dX4_targetOf_6 : decode cX4_targetOf 6 = .ok (.goto 39, 3) := dk_167 0 39 (dk_at dksX4_targetOf_0 6 rfl rfl)
theorem dX4_targetOf_9 : decode cX4_targetOf 9 = .ok (.iload_n 1, 1) := dk_27 (dk_at dksX4_targetOf_0 9 rfl rfl)
theorem dX4_targetOf_10 : decode cX4_targetOf 10 = .ok (.sipush 128, 3) := dk_17 0 128 (dk_at dksX4_targetOf_0 10 rfl rfl)
theorem dX4_targetOf_13 : decode cX4_targetOf 13 = .ok (.if_icmp .ge 24, 3) := dk_162 0 24 (dk_at dksX4_targetOf_0 13 rfl rfl)
theorem dX4_targetOf_16 : decode cX4_targetOf 16 = .ok (.iconst 4, 1) := dk_7 (dk_at dksX4_targetOf_0 16 rfl rfl)
theorem dX4_targetOf_17 : decode cX4_targetOf 17 = .ok (.iconst 4, 1) := dk_7 (dk_at dksX4_targetOf_0 17 rfl rfl)
theorem dX4_targetOf_18 : decode cX4_targetOf 18 = .ok (.aload_n 0, 1) := dk_42 (dk_at dksX4_targetOf_0 18 rfl rfl)
theorem dX4_targetOf_19 : decode cX4_targetOf 19 = .ok (.getfield 32, 3) := dk_180 0 32 (dk_at dksX4_targetOf_0 19 rfl rfl)
theorem dX4_targetOf_22 : decode cX4_targetOf 22 = .ok (.iload_n 1, 1) := dk_27 (dk_at dksX4_targetOf_0 22 rfl rfl)
theorem dX4_targetOf_23 : decode cX4_targetOf 23 = .ok (.iconst 4, 1) := dk_7 (dk_at dksX4_targetOf_0 23 rfl rfl)
theorem dX4_targetOf_24 : decode cX4_targetOf 24 = .ok (.isub, 1) := dk_100 (dk_at dksX4_targetOf_1 0 rfl rfl)
theorem dX4_targetOf_25 : decode cX4_targetOf 25 = .ok (.iconst 4, 1) := dk_7 (dk_at dksX4_targetOf_1 1 rfl rfl)
theorem dX4_targetOf_26 : decode cX4_targetOf 26 = .ok (.idiv, 1) := dk_108 (dk_at dksX4_targetOf_1 2 rfl rfl)
theorem dX4_targetOf_27 : decode cX4_targetOf 27 = .ok (.iaload, 1) := dk_46 (dk_at dksX4_targetOf_1 3 rfl rfl)
theorem dX4_targetOf_28 : decode cX4_targetOf 28 = .ok (.imul, 1) := dk_104 (dk_at dksX4_targetOf_1 4 rfl rfl)
theorem dX4_targetOf_29 : decode cX4_targetOf 29 = .ok (.iadd, 1) := dk_96 (dk_at dksX4_targetOf_1 5 rfl rfl)
theorem dX4_targetOf_30 : decode cX4_targetOf 30 = .ok (.iload_n 1, 1) := dk_27 (dk_at dksX4_targetOf_1 6 rfl rfl)
theorem dX4_targetOf_31 : decode cX4_targetOf 31 = .ok (.iconst 4, 1) := dk_7 (dk_at dksX4_targetOf_1 7 rfl rfl)
theorem dX4_targetOf_32 : decode cX4_targetOf 32 = .ok (.irem, 1) := dk_112 (dk_at dksX4_targetOf_1 8 rfl rfl)
theorem dX4_targetOf_33 : decode cX4_targetOf 33 = .ok (.iadd, 1) := dk_96 (dk_at dksX4_targetOf_1 9 rfl rfl)
theorem dX4_targetOf_34 : decode cX4_targetOf 34 = .ok (.goto 11, 3) := dk_167 0 11 (dk_at dksX4_targetOf_1 10 rfl rfl)
theorem dX4_targetOf_37 : decode cX4_targetOf 37 = .ok (.bipush 20, 2) := dk_16 20 (dk_at dksX4_targetOf_1 13 rfl rfl)
theorem dX4_targetOf_39 : decode cX4_targetOf 39 = .ok (.iload_n 1, 1) := dk_27 (dk_at dksX4_targetOf_1 15 rfl rfl)
theorem dX4_targetOf_40 : decode cX4_targetOf 40 = .ok (.iadd, 1) := dk_96 (dk_at dksX4_targetOf_1 16 rfl rfl)
theorem dX4_targetOf_41 : decode cX4_targetOf 41 = .ok (.sipush 128, 3) := dk_17 0 128 (dk_at dksX4_targetOf_1 17 rfl rfl)
theorem dX4_targetOf_44 : decode cX4_targetOf 44 = .ok (.isub, 1) := dk_100 (dk_at dksX4_targetOf_1 20 rfl rfl)
theorem dX4_targetOf_45 : decode cX4_targetOf 45 = .ok (.ireturn, 1) := dk_172 (dk_at dksX4_targetOf_1 21 rfl rfl)
abbrev cX4_findUnification : ByteArray := prog_21_method_75_code
def yX4_findUnification : MethodName := ⟨RX4, "findUnification", "()V"⟩
def dkwX4_findUnification_2 : List UInt8 := [182, 0, 162, 162, 0, 18, 42, 42, 27, 182, 0, 91, 182, 1, 40, 132, 1, 1, 167, 255, 236, 177]
abbrev dktX4_findUnification_2 : List UInt8 := dkwX4_findUnification_2 ++ []
def dkwX4_findUnification_1 : List UInt8 := [3, 60, 27, 16, 20, 162, 0, 15, 42, 27, 182, 1, 34, 87, 132, 1, 1, 167, 255, 241, 3, 60, 27, 42]
abbrev dktX4_findUnification_1 : List UInt8 := dkwX4_findUnification_1 ++ dktX4_findUnification_2
def dkwX4_findUnification_0 : List UInt8 := [42, 3, 181, 1, 22, 3, 60, 27, 16, 28, 162, 0, 14, 42, 182, 1, 28, 87, 132, 1, 1, 167, 255, 242]
abbrev dktX4_findUnification_0 : List UInt8 := dkwX4_findUnification_0 ++ dktX4_findUnification_1
theorem dksX4_findUnification_0 : cX4_findUnification.data.toList.drop 0 = dktX4_findUnification_0 := by decide +kernel
theorem dksX4_findUnification_1 : cX4_findUnification.data.toList.drop 24 = dktX4_findUnification_1 := dk_seg dksX4_findUnification_0 24 rfl rfl
theorem dksX4_findUnification_2 : cX4_findUnification.data.toList.drop 48 = dktX4_findUnification_2 := dk_seg dksX4_findUnification_1 24 rfl rfl
theorem dX4_findUnification_0 : decode cX4_findUnification 0 = .ok (.aload_n 0, 1) := dk_42 (dk_at dksX4_findUnification_0 0 rfl rfl)
theorem dX4_findUnification_1 : decode cX4_findUnification 1 = .ok (.iconst 0, 1) := dk_3 (dk_at dksX4_findUnification_0 1 rfl rfl)
theorem dX4_findUnification_2 : decode cX4_findUnification 2 = .ok (.putfield 278, 3) := dk_181 1 22 (dk_at dksX4_findUnification_0 2 rfl rfl)
theorem dX4_findUnification_5 : decode cX4_findUnification 5 = .ok (.iconst 0, 1) := dk_3 (dk_at dksX4_findUnification_0 5 rfl rfl)
theorem dX4_findUnification_6 : decode cX4_findUnification 6 = .ok (.istore_n 1, 1) := dk_60 (dk_at dksX4_findUnification_0 6 rfl rfl)
theorem dX4_findUnification_7 : decode cX4_findUnification 7 = .ok (.iload_n 1, 1) := dk_27 (dk_at dksX4_findUnification_0 7 rfl rfl)
theorem dX4_findUnification_8 : decode cX4_findUnification 8 = .ok (.bipush 28, 2) := dk_16 28 (dk_at dksX4_findUnification_0 8 rfl rfl)
theorem dX4_findUnification_10 : decode cX4_findUnification 10 = .ok (.if_icmp .ge 14, 3) := dk_162 0 14 (dk_at dksX4_findUnification_0 10 rfl rfl)
theorem dX4_findUnification_13 : decode cX4_findUnification 13 = .ok (.aload_n 0, 1) := dk_42 (dk_at dksX4_findUnification_0 13 rfl rfl)
theorem dX4_findUnification_14 : decode cX4_findUnification 14 = .ok (.invokevirtual 284, 3) := dk_182 1 28 (dk_at dksX4_findUnification_0 14 rfl rfl)
theorem dX4_findUnification_17 : decode cX4_findUnification 17 = .ok (.pop, 1) := dk_87 (dk_at dksX4_findUnification_0 17 rfl rfl)
theorem dX4_findUnification_18 : decode cX4_findUnification 18 = .ok (.iinc 1 1, 3) := dk_132 1 1 (dk_at dksX4_findUnification_0 18 rfl rfl)
theorem dX4_findUnification_21 : decode cX4_findUnification 21 = .ok (.goto (-14), 3) := dk_167 255 242 (dk_at dksX4_findUnification_0 21 rfl rfl)
theorem dX4_findUnification_24 : decode cX4_findUnification 24 = .ok (.iconst 0, 1) := dk_3 (dk_at dksX4_findUnification_1 0 rfl rfl)
theorem dX4_findUnification_25 : decode cX4_findUnification 25 = .ok (.istore_n 1, 1) := dk_60 (dk_at dksX4_findUnification_1 1 rfl rfl)
theorem dX4_findUnification_26 : decode cX4_findUnification 26 = .ok (.iload_n 1, 1) := dk_27 (dk_at dksX4_findUnification_1 2 rfl rfl)
theorem dX4_findUnification_27 : decode cX4_findUnification 27 = .ok (.bipush 20, 2) := dk_16 20 (dk_at dksX4_findUnification_1 3 rfl rfl)
theorem dX4_findUnification_29 : decode cX4_findUnification 29 = .ok (.if_icmp .ge 15, 3) := dk_162 0 15 (dk_at dksX4_findUnification_1 5 rfl rfl)
theorem dX4_findUnification_32 : decode cX4_findUnification 32 = .ok (.aload_n 0, 1) := dk_42 (dk_at dksX4_findUnification_1 8 rfl rfl)
theorem dX4_findUnification_33 : decode cX4_findUnification 33 = .ok (.iload_n 1, 1) := dk_27 (dk_at dksX4_findUnification_1 9 rfl rfl)
theorem dX4_findUnification_34 : decode cX4_findUnification 34 = .ok (.invokevirtual 290, 3) := dk_182 1 34 (dk_at dksX4_findUnification_1 10 rfl rfl)
theorem dX4_findUnification_37 : decode cX4_findUnification 37 = .ok (.pop, 1) := dk_87 (dk_at dksX4_findUnification_1 13 rfl rfl)
theorem dX4_findUnification_38 : decode cX4_findUnification 38 = .ok (.iinc 1 1, 3) := dk_132 1 1 (dk_at dksX4_findUnification_1 14 rfl rfl)
theorem dX4_findUnification_41 : decode cX4_findUnification 41 = .ok (.goto (-15), 3) := dk_167 255 241 (dk_at dksX4_findUnification_1 17 rfl rfl)
theorem dX4_findUnification_44 : decode cX4_findUnification 44 = .ok (.iconst 0, 1) := dk_3 (dk_at dksX4_findUnification_1 20 rfl rfl)
theorem dX4_findUnification_45 : decode cX4_findUnification 45 = .ok (.istore_n 1, 1) := dk_60 (dk_at dksX4_findUnification_1 21 rfl rfl)
theorem dX4_findUnification_46 : decode cX4_findUnification 46 = .ok (.iload_n 1, 1) := dk_27 (dk_at dksX4_findUnification_1 22 rfl rfl)
theorem dX4_findUnification_47 : decode cX4_findUnification 47 = .ok (.aload_n 0, 1) := dk_42 (dk_at dksX4_findUnification_1 23 rfl rfl)
theorem dX4_findUnification_48 : decode cX4_findUnification 48 = .ok (.invokevirtual 162, 3) := dk_182 0 162 (dk_at dksX4_findUnification_2 0 rfl rfl)
theorem dX4_findUnification_51 : decode cX4_findUnification 51 = .ok (.if_icmp .ge 18, 3) := dk_162 0 18 (dk_at dksX4_findUnification_2 3 rfl rfl)
theorem dX4_findUnification_54 : decode cX4_findUnification 54 = .ok (.aload_n 0, 1) := dk_42 (dk_at dksX4_findUnification_2 6 rfl rfl)
theorem dX4_findUnification_55 : decode cX4_findUnification 55 = .ok (.aload_n 0, 1) := dk_42 (dk_at dksX4_findUnification_2 7 rfl rfl)
theorem dX4_findUnification_56 : decode cX4_findUnification 56 = .ok (.iload_n 1, 1) := dk_27 (dk_at dksX4_findUnification_2 8 rfl rfl)
theorem dX4_findUnification_57 : decode cX4_findUnification 57 = .ok (.invokevirtual 91, 3) := dk_182 0 91 (dk_at dksX4_findUnification_2 9 rfl rfl)
theorem dX4_findUnification_60 : decode cX4_findUnification 60 = .ok (.invokevirtual 296, 3) := dk_182 1 40 (dk_at dksX4_findUnification_2 12 rfl rfl)
theorem dX4_findUnification_63 : decode cX4_findUnification 63 = .ok (.iinc 1 1, 3) := dk_132 1 1 (dk_at dksX4_findUnification_2 15 rfl rfl)
theorem dX4_findUnification_66 : decode cX4_findUnification 66 = .ok (.goto (-20), 3) := dk_167 255 236 (dk_at dksX4_findUnification_2 18 rfl rfl)
theorem dX4_findUnification_69 : decode cX4_findUnification 69 = .ok (.return_, 1) := dk_177 (dk_at dksX4_findUnification_2 21 rfl rfl)
abbrev cX4_made : ByteArray := prog_21_method_71_code
def yX4_made : MethodName := ⟨RX4, "made", "()I"⟩
def dkwX4_made_1 : List UInt8 := [89, 180, 1, 22, 4, 96, 181, 1, 22, 42, 180, 1, 22, 4, 100, 172]
abbrev dktX4_made_1 : List UInt8 := dkwX4_made_1 ++ []
def dkwX4_made_0 : List UInt8 := [42, 180, 0, 51, 42, 180, 1, 22, 42, 180, 1, 22, 79, 42, 180, 0, 54, 42, 180, 1, 22, 2, 79, 42]
abbrev dktX4_made_0 : List UInt8 := dkwX4_made_0 ++ dktX4_made_1
theorem dksX4_made_0 : cX4_made.data.toList.drop 0 = dktX4_made_0 := by decide +kernel
theorem dksX4_made_1 : cX4_made.data.toList.drop 24 = dktX4_made_1 := dk_seg dksX4_made_0 24 rfl rfl
theorem dX4_made_0 : decode cX4_made 0 = .ok (.aload_n 0, 1) := dk_42 (dk_at dksX4_made_0 0 rfl rfl)
theorem dX4_made_1 : decode cX4_made 1 = .ok (.getfield 51, 3) := dk_180 0 51 (dk_at dksX4_made_0 1 rfl rfl)
theorem dX4_made_4 : decode cX4_made 4 = .ok (.aload_n 0, 1) := dk_42 (dk_at dksX4_made_0 4 rfl rfl)
theorem dX4_made_5 : decode cX4_made 5 = .ok (.getfield 278, 3) := dk_180 1 22 (dk_at dksX4_made_0 5 rfl rfl)
theorem dX4_made_8 : decode cX4_made 8 = .ok (.aload_n 0, 1) := dk_42 (dk_at dksX4_made_0 8 rfl rfl)
theorem dX4_made_9 : decode cX4_made 9 = .ok (.getfield 278, 3) := dk_180 1 22 (dk_at dksX4_made_0 9 rfl rfl)
theorem dX4_made_12 : decode cX4_made 12 = .ok (.iastore, 1) := dk_79 (dk_at dksX4_made_0 12 rfl rfl)
theorem dX4_made_13 : decode cX4_made 13 = .ok (.aload_n 0, 1) := dk_42 (dk_at dksX4_made_0 13 rfl rfl)
theorem dX4_made_14 : decode cX4_made 14 = .ok (.getfield 54, 3) := dk_180 0 54 (dk_at dksX4_made_0 14 rfl rfl)
theorem dX4_made_17 : decode cX4_made 17 = .ok (.aload_n 0, 1) := dk_42 (dk_at dksX4_made_0 17 rfl rfl)
theorem dX4_made_18 : decode cX4_made 18 = .ok (.getfield 278, 3) := dk_180 1 22 (dk_at dksX4_made_0 18 rfl rfl)
theorem dX4_made_21 : decode cX4_made 21 = .ok (.iconst (-1), 1) := dk_2 (dk_at dksX4_made_0 21 rfl rfl)
theorem dX4_made_22 : decode cX4_made 22 = .ok (.iastore, 1) := dk_79 (dk_at dksX4_made_0 22 rfl rfl)
theorem dX4_made_23 : decode cX4_made 23 = .ok (.aload_n 0, 1) := dk_42 (dk_at dksX4_made_0 23 rfl rfl)
theorem dX4_made_24 : decode cX4_made 24 = .ok (.dup, 1) := dk_89 (dk_at dksX4_made_1 0 rfl rfl)
theorem dX4_made_25 : decode cX4_made 25 = .ok (.getfield 278, 3) := dk_180 1 22 (dk_at dksX4_made_1 1 rfl rfl)
theorem dX4_made_28 : decode cX4_made 28 = .ok (.iconst 1, 1) := dk_4 (dk_at dksX4_made_1 4 rfl rfl)
theorem dX4_made_29 : decode cX4_made 29 = .ok (.iadd, 1) := dk_96 (dk_at dksX4_made_1 5 rfl rfl)
theorem dX4_made_30 : decode cX4_made 30 = .ok (.putfield 278, 3) := dk_181 1 22 (dk_at dksX4_made_1 6 rfl rfl)
theorem dX4_made_33 : decode cX4_made 33 = .ok (.aload_n 0, 1) := dk_42 (dk_at dksX4_made_1 9 rfl rfl)
theorem dX4_made_34 : decode cX4_made 34 = .ok (.getfield 278, 3) := dk_180 1 22 (dk_at dksX4_made_1 10 rfl rfl)
theorem dX4_made_37 : decode cX4_made 37 = .ok (.iconst 1, 1) := dk_4 (dk_at dksX4_made_1 13 rfl rfl)
theorem dX4_made_38 : decode cX4_made 38 = .ok (.isub, 1) := dk_100 (dk_at dksX4_made_1 14 rfl rfl)
theorem dX4_made_39 : decode cX4_made 39 = .ok (.ireturn, 1) := dk_172 (dk_at dksX4_made_1 15 rfl rfl)
abbrev cX4_pointed : ByteArray := prog_21_method_72_code
def yX4_pointed : MethodName := ⟨RX4, "pointed", "(I)I"⟩
def dkwX4_pointed_1 : List UInt8 := [79, 42, 180, 0, 54, 28, 46, 172]
abbrev dktX4_pointed_1 : List UInt8 := dkwX4_pointed_1 ++ []
def dkwX4_pointed_0 : List UInt8 := [42, 27, 182, 1, 25, 61, 42, 180, 0, 54, 28, 46, 156, 0, 13, 42, 180, 0, 54, 28, 42, 182, 1, 28]
abbrev dktX4_pointed_0 : List UInt8 := dkwX4_pointed_0 ++ dktX4_pointed_1
theorem dksX4_pointed_0 : cX4_pointed.data.toList.drop 0 = dktX4_pointed_0 := by decide +kernel
theorem dksX4_pointed_1 : cX4_pointed.data.toList.drop 24 = dktX4_pointed_1 := dk_seg dksX4_pointed_0 24 rfl rfl
theorem dX4_pointed_0 : decode cX4_pointed 0 = .ok (.aload_n 0, 1) := dk_42 (dk_at dksX4_pointed_0 0 rfl rfl)
theorem dX4_pointed_1 : decode cX4_pointed 1 = .ok (.iload_n 1, 1) := dk_27 (dk_at dksX4_pointed_0 1 rfl rfl)
theorem dX4_pointed_2 : decode cX4_pointed 2 = .ok (.invokevirtual 281, 3) := dk_182 1 25 (dk_at dksX4_pointed_0 2 rfl rfl)
theorem dX4_pointed_5 : decode cX4_pointed 5 = .ok (.istore_n 2, 1) := dk_61 (dk_at dksX4_pointed_0 5 rfl rfl)
theorem dX4_pointed_6 : decode cX4_pointed 6 = .ok (.aload_n 0, 1) := dk_42 (dk_at dksX4_pointed_0 6 rfl rfl)
theorem dX4_pointed_7 : decode cX4_pointed 7 = .ok (.getfield 54, 3) := dk_180 0 54 (dk_at dksX4_pointed_0 7 rfl rfl)
theorem dX4_pointed_10 : decode cX4_pointed 10 = .ok (.iload_n 2, 1) := dk_28 (dk_at dksX4_pointed_0 10 rfl rfl)
theorem dX4_pointed_11 : decode cX4_pointed 11 = .ok (.iaload, 1) := dk_46 (dk_at dksX4_pointed_0 11 rfl rfl)
theorem dX4_pointed_12 : decode cX4_pointed 12 = .ok (.ifCond .ge 13, 3) := dk_156 0 13 (dk_at dksX4_pointed_0 12 rfl rfl)
theorem dX4_pointed_15 : decode cX4_pointed 15 = .ok (.aload_n 0, 1) := dk_42 (dk_at dksX4_pointed_0 15 rfl rfl)
theorem dX4_pointed_16 : decode cX4_pointed 16 = .ok (.getfield 54, 3) := dk_180 0 54 (dk_at dksX4_pointed_0 16 rfl rfl)
theorem dX4_pointed_19 : decode cX4_pointed 19 = .ok (.iload_n 2, 1) := dk_28 (dk_at dksX4_pointed_0 19 rfl rfl)
theorem dX4_pointed_20 : decode cX4_pointed 20 = .ok (.aload_n 0, 1) := dk_42 (dk_at dksX4_pointed_0 20 rfl rfl)
theorem dX4_pointed_21 : decode cX4_pointed 21 = .ok (.invokevirtual 284, 3) := dk_182 1 28 (dk_at dksX4_pointed_0 21 rfl rfl)
theorem dX4_pointed_24 : decode cX4_pointed 24 = .ok (.iastore, 1) := dk_79 (dk_at dksX4_pointed_1 0 rfl rfl)
theorem dX4_pointed_25 : decode cX4_pointed 25 = .ok (.aload_n 0, 1) := dk_42 (dk_at dksX4_pointed_1 1 rfl rfl)
theorem dX4_pointed_26 : decode cX4_pointed 26 = .ok (.getfield 54, 3) := dk_180 0 54 (dk_at dksX4_pointed_1 2 rfl rfl)
theorem dX4_pointed_29 : decode cX4_pointed 29 = .ok (.iload_n 2, 1) := dk_28 (dk_at dksX4_pointed_1 5 rfl rfl)
theorem dX4_pointed_30 : decode cX4_pointed 30 = .ok (.iaload, 1) := dk_46 (dk_at dksX4_pointed_1 6 rfl rfl)
theorem dX4_pointed_31 : decode cX4_pointed 31 = .ok (.ireturn, 1) := dk_172 (dk_at dksX4_pointed_1 7 rfl rfl)
abbrev cX4_rootOf : ByteArray := prog_21_method_70_code
def yX4_rootOf : MethodName := ⟨RX4, "rootOf", "(I)I"⟩
def dkwX4_rootOf_0 : List UInt8 := [27, 61, 42, 180, 0, 51, 28, 46, 28, 159, 0, 13, 42, 180, 0, 51, 28, 46, 61, 167, 255, 239, 28, 172]
abbrev dktX4_rootOf_0 : List UInt8 := dkwX4_rootOf_0 ++ []
theorem dksX4_rootOf_0 : cX4_rootOf.data.toList.drop 0 = dktX4_rootOf_0 := by decide +kernel
theorem dX4_rootOf_0 : decode cX4_rootOf 0 = .ok (.iload_n 1, 1) := dk_27 (dk_at dksX4_rootOf_0 0 rfl rfl)
theorem dX4_rootOf_1 : decode cX4_rootOf 1 = .ok (.istore_n 2, 1) := dk_61 (dk_at dksX4_rootOf_0 1 rfl rfl)
theorem dX4_rootOf_2 : decode cX4_rootOf 2 = .ok (.aload_n 0, 1) := dk_42 (dk_at dksX4_rootOf_0 2 rfl rfl)
theorem dX4_rootOf_3 : decode cX4_rootOf 3 = .ok (.getfield 51, 3) := dk_180 0 51 (dk_at dksX4_rootOf_0 3 rfl rfl)
theorem dX4_rootOf_6 : decode cX4_rootOf 6 = .ok (.iload_n 2, 1) := dk_28 (dk_at dksX4_rootOf_0 6 rfl rfl)
theorem dX4_rootOf_7 : decode cX4_rootOf 7 = .ok (.iaload, 1) := dk_46 (dk_at dksX4_rootOf_0 7 rfl rfl)
theorem dX4_rootOf_8 : decode cX4_rootOf 8 = .ok (.iload_n 2, 1) := dk_28 (dk_at dksX4_rootOf_0 8 rfl rfl)
theorem dX4_rootOf_9 : decode cX4_rootOf 9 = .ok (.if_icmp .eq 13, 3) := dk_159 0 13 (dk_at dksX4_rootOf_0 9 rfl rfl)
theorem dX4_rootOf_12 : decode cX4_rootOf 12 = .ok (.aload_n 0, 1) := dk_42 (dk_at dksX4_rootOf_0 12 rfl rfl)
theorem dX4_rootOf_13 : decode cX4_rootOf 13 = .ok (.getfield 51, 3) := dk_180 0 51 (dk_at dksX4_rootOf_0 13 rfl rfl)
theorem dX4_rootOf_16 : decode cX4_rootOf 16 = .ok (.iload_n 2, 1) := dk_28 (dk_at dksX4_rootOf_0 16 rfl rfl)
theorem dX4_rootOf_17 : decode cX4_rootOf 17 = .ok (.iaload, 1) := dk_46 (dk_at dksX4_rootOf_0 17 rfl rfl)
theorem dX4_rootOf_18 : decode cX4_rootOf 18 = .ok (.istore_n 2, 1) := dk_61 (dk_at dksX4_rootOf_0 18 rfl rfl)
theorem dX4_rootOf_19 : decode cX4_rootOf 19 = .ok (.goto (-17), 3) := dk_167 255 239 (dk_at dksX4_rootOf_0 19 rfl rfl)
theorem dX4_rootOf_22 : decode cX4_rootOf 22 = .ok (.iload_n 2, 1) := dk_28 (dk_at dksX4_rootOf_0 22 rfl rfl)
theorem dX4_rootOf_23 : decode cX4_rootOf 23 = .ok (.ireturn, 1) := dk_172 (dk_at dksX4_rootOf_0 23 rfl rfl)
abbrev cX4_unifiesBy : ByteArray := prog_21_method_74_code
def yX4_unifiesBy : MethodName := ⟨RX4, "unifiesBy", "(I)V"⟩
def dkwX4_unifiesBy_8 : List UInt8 := [167, 0, 17, 42, 42, 28, 182, 1, 34, 42, 29, 182, 1, 34, 182, 1, 37, 177]
abbrev dktX4_unifiesBy_8 : List UInt8 := dkwX4_unifiesBy_8 ++ []
def dkwX4_unifiesBy_7 : List UInt8 := [182, 1, 37, 42, 42, 28, 182, 1, 34, 42, 7, 7, 21, 4, 104, 96, 4, 96, 182, 1, 34, 182, 1, 37]
abbrev dktX4_unifiesBy_7 : List UInt8 := dkwX4_unifiesBy_7 ++ dktX4_unifiesBy_8
def dkwX4_unifiesBy_6 : List UInt8 := [182, 1, 37, 167, 0, 60, 42, 42, 7, 7, 21, 4, 104, 96, 182, 1, 34, 42, 29, 182, 1, 34]
abbrev dktX4_unifiesBy_6 : List UInt8 := dkwX4_unifiesBy_6 ++ dktX4_unifiesBy_7
def dkwX4_unifiesBy_5 : List UInt8 := [182, 1, 34, 182, 1, 37, 167, 0, 80, 42, 42, 28, 182, 1, 34, 16, 20, 42, 27, 182, 0, 206, 96]
abbrev dktX4_unifiesBy_5 : List UInt8 := dkwX4_unifiesBy_5 ++ dktX4_unifiesBy_6
def dkwX4_unifiesBy_4 : List UInt8 := [182, 1, 34, 182, 1, 34, 182, 1, 37, 167, 0, 101, 42, 42, 42, 28, 182, 1, 34, 182, 1, 34, 42, 29]
abbrev dktX4_unifiesBy_4 : List UInt8 := dkwX4_unifiesBy_4 ++ dktX4_unifiesBy_5
def dkwX4_unifiesBy_3 : List UInt8 := [42, 42, 28, 182, 1, 34, 29, 182, 1, 37, 167, 0, 122, 42, 42, 28, 182, 1, 34, 42, 42, 29]
abbrev dktX4_unifiesBy_3 : List UInt8 := dkwX4_unifiesBy_3 ++ dktX4_unifiesBy_4
def dkwX4_unifiesBy_2 : List UInt8 := [170, 0, 0, 0, 0, 0, 0, 162, 0, 0, 0, 0, 0, 0, 0, 6, 0, 0, 0, 44, 0, 0, 0, 162, 0, 0, 0, 57, 0, 0, 0, 78, 0, 0, 0, 99, 0, 0, 0, 162, 0, 0, 0, 119]
abbrev dktX4_unifiesBy_2 : List UInt8 := dkwX4_unifiesBy_2 ++ dktX4_unifiesBy_3
def dkwX4_unifiesBy_1 : List UInt8 := [180, 0, 7, 27, 46]
abbrev dktX4_unifiesBy_1 : List UInt8 := dkwX4_unifiesBy_1 ++ dktX4_unifiesBy_2
def dkwX4_unifiesBy_0 : List UInt8 := [42, 180, 0, 13, 27, 46, 61, 42, 180, 0, 16, 27, 46, 62, 42, 180, 0, 19, 27, 46, 54, 4, 42]
abbrev dktX4_unifiesBy_0 : List UInt8 := dkwX4_unifiesBy_0 ++ dktX4_unifiesBy_1
theorem dksX4_unifiesBy_0 : cX4_unifiesBy.data.toList.drop 0 = dktX4_unifiesBy_0 := by decide +kernel
theorem dksX4_unifiesBy_1 : cX4_unifiesBy.data.toList.drop 23 = dktX4_unifiesBy_1 := dk_seg dksX4_unifiesBy_0 23 rfl rfl
theorem dksX4_unifiesBy_2 : cX4_unifiesBy.data.toList.drop 28 = dktX4_unifiesBy_2 := dk_seg dksX4_unifiesBy_1 5 rfl rfl
theorem dksX4_unifiesBy_3 : cX4_unifiesBy.data.toList.drop 72 = dktX4_unifiesBy_3 := dk_seg dksX4_unifiesBy_2 44 rfl rfl
theorem dksX4_unifiesBy_4 : cX4_unifiesBy.data.toList.drop 94 = dktX4_unifiesBy_4 := dk_seg dksX4_unifiesBy_3 22 rfl rfl
theorem dksX4_unifiesBy_5 : cX4_unifiesBy.data.toList.drop 118 = dktX4_unifiesBy_5 := dk_seg dksX4_unifiesBy_4 24 rfl rfl
theorem dksX4_unifiesBy_6 : cX4_unifiesBy.data.toList.drop 141 = dktX4_unifiesBy_6 := dk_seg dksX4_unifiesBy_5 23 rfl rfl
theorem dksX4_unifiesBy_7 : cX4_unifiesBy.data.toList.drop 163 = dktX4_unifiesBy_7 := dk_seg dksX4_unifiesBy_6 22 rfl rfl
theorem dksX4_unifiesBy_8 : cX4_unifiesBy.data.toList.drop 187 = dktX4_unifiesBy_8 := dk_seg dksX4_unifiesBy_7 24 rfl rfl
theorem dX4_unifiesBy_0 : decode cX4_unifiesBy 0 = .ok (.aload_n 0, 1) := dk_42 (dk_at dksX4_unifiesBy_0 0 rfl rfl)
theorem dX4_unifiesBy_1 : decode cX4_unifiesBy 1 = .ok (.getfield 13, 3) := dk_180 0 13 (dk_at dksX4_unifiesBy_0 1 rfl rfl)
theorem dX4_unifiesBy_4 : decode cX4_unifiesBy 4 = .ok (.iload_n 1, 1) := dk_27 (dk_at dksX4_unifiesBy_0 4 rfl rfl)
theorem dX4_unifiesBy_5 : decode cX4_unifiesBy 5 = .ok (.iaload, 1) := dk_46 (dk_at dksX4_unifiesBy_0 5 rfl rfl)
theorem dX4_unifiesBy_6 : decode cX4_unifiesBy 6 = .ok (.istore_n 2, 1) := dk_61 (dk_at dksX4_unifiesBy_0 6 rfl rfl)
theorem dX4_unifiesBy_7 : decode cX4_unifiesBy 7 = .ok (.aload_n 0, 1) := dk_42 (dk_at dksX4_unifiesBy_0 7 rfl rfl)
theorem dX4_unifiesBy_8 : decode cX4_unifiesBy 8 = .ok (.getfield 16, 3) := dk_180 0 16 (dk_at dksX4_unifiesBy_0 8 rfl rfl)
theorem dX4_unifiesBy_11 : decode cX4_unifiesBy 11 = .ok (.iload_n 1, 1) := dk_27 (dk_at dksX4_unifiesBy_0 11 rfl rfl)
theorem dX4_unifiesBy_12 : decode cX4_unifiesBy 12 = .ok (.iaload, 1) := dk_46 (dk_at dksX4_unifiesBy_0 12 rfl rfl)
theorem dX4_unifiesBy_13 : decode cX4_unifiesBy 13 = .ok (.istore_n 3, 1) := dk_62 (dk_at dksX4_unifiesBy_0 13 rfl rfl)
theorem dX4_unifiesBy_14 : decode cX4_unifiesBy 14 = .ok (.aload_n 0, 1) := dk_42 (dk_at dksX4_unifiesBy_0 14 rfl rfl)
theorem dX4_unifiesBy_15 : decode cX4_unifiesBy 15 = .ok (.getfield 19, 3) := dk_180 0 19 (dk_at dksX4_unifiesBy_0 15 rfl rfl)
theorem dX4_unifiesBy_18 : decode cX4_unifiesBy 18 = .ok (.iload_n 1, 1) := dk_27 (dk_at dksX4_unifiesBy_0 18 rfl rfl)
theorem dX4_unifiesBy_19 : decode cX4_unifiesBy 19 = .ok (.iaload, 1) := dk_46 (dk_at dksX4_unifiesBy_0 19 rfl rfl)
theorem dX4_unifiesBy_20 : decode cX4_unifiesBy 20 = .ok (.istore 4, 2) := dk_54 4 (dk_at dksX4_unifiesBy_0 20 rfl rfl)
theorem dX4_unifiesBy_22 : decode cX4_unifiesBy 22 = .ok (.aload_n 0, 1) := dk_42 (dk_at dksX4_unifiesBy_0 22 rfl rfl)
theorem dX4_unifiesBy_23 : decode cX4_unifiesBy 23 = .ok (.getfield 7, 3) := dk_180 0 7 (dk_at dksX4_unifiesBy_1 0 rfl rfl)
theorem dX4_unifiesBy_26 : decode cX4_unifiesBy 26 = .ok (.iload_n 1, 1) := dk_27 (dk_at dksX4_unifiesBy_1 3 rfl rfl)
theorem dX4_unifiesBy_27 : decode cX4_unifiesBy 27 = .ok (.iaload, 1) := dk_46 (dk_at dksX4_unifiesBy_1 4 rfl rfl)
theorem dX4_unifiesBy_28 : decode cX4_unifiesBy 28 = .ok (.tableswitch 162 0 6 #[44, 162, 57, 78, 99, 162, 119], 44) := by decide +kernel
theorem dX4_unifiesBy_72 : decode cX4_unifiesBy 72 = .ok (.aload_n 0, 1) := dk_42 (dk_at dksX4_unifiesBy_3 0 rfl rfl)
theorem dX4_unifiesBy_73 : decode cX4_unifiesBy 73 = .ok (.aload_n 0, 1) := dk_42 (dk_at dksX4_unifiesBy_3 1 rfl rfl)
theorem dX4_unifiesBy_74 : decode cX4_unifiesBy 74 = .ok (.iload_n 2, 1) := dk_28 (dk_at dksX4_unifiesBy_3 2 rfl rfl)
theorem dX4_unifiesBy_75 : decode cX4_unifiesBy 75 = .ok (.invokevirtual 290, 3) := dk_182 1 34 (dk_at dksX4_unifiesBy_3 3 rfl rfl)
theorem dX4_unifiesBy_78 : decode cX4_unifiesBy 78 = .ok (.iload_n 3, 1) := dk_29 (dk_at dksX4_unifiesBy_3 6 rfl rfl)
theorem dX4_unifiesBy_79 : decode cX4_unifiesBy 79 = .ok (.invokevirtual 293, 3) := dk_182 1 37 (dk_at dksX4_unifiesBy_3 7 rfl rfl)
theorem dX4_unifiesBy_82 : decode cX4_unifiesBy 82 = .ok (.goto 122, 3) := dk_167 0 122 (dk_at dksX4_unifiesBy_3 10 rfl rfl)
theorem dX4_unifiesBy_85 : decode cX4_unifiesBy 85 = .ok (.aload_n 0, 1) := dk_42 (dk_at dksX4_unifiesBy_3 13 rfl rfl)
theorem dX4_unifiesBy_86 : decode cX4_unifiesBy 86 = .ok (.aload_n 0, 1) := dk_42 (dk_at dksX4_unifiesBy_3 14 rfl rfl)
theorem dX4_unifiesBy_87 : decode cX4_unifiesBy 87 = .ok (.iload_n 2, 1) := dk_28 (dk_at dksX4_unifiesBy_3 15 rfl rfl)
theorem dX4_unifiesBy_88 : decode cX4_unifiesBy 88 = .ok (.invokevirtual 290, 3) := dk_182 1 34 (dk_at dksX4_unifiesBy_3 16 rfl rfl)
theorem dX4_unifiesBy_91 : decode cX4_unifiesBy 91 = .ok (.aload_n 0, 1) := dk_42 (dk_at dksX4_unifiesBy_3 19 rfl rfl)
theorem dX4_unifiesBy_92 : decode cX4_unifiesBy 92 = .ok (.aload_n 0, 1) := dk_42 (dk_at dksX4_unifiesBy_3 20 rfl rfl)
theorem dX4_unifiesBy_93 : decode cX4_unifiesBy 93 = .ok (.iload_n 3, 1) := dk_29 (dk_at dksX4_unifiesBy_3 21 rfl rfl)
theorem dX4_unifiesBy_94 : decode cX4_unifiesBy 94 = .ok (.invokevirtual 290, 3) := dk_182 1 34 (dk_at dksX4_unifiesBy_4 0 rfl rfl)
theorem dX4_unifiesBy_97 : decode cX4_unifiesBy 97 = .ok (.invokevirtual 290, 3) := dk_182 1 34 (dk_at dksX4_unifiesBy_4 3 rfl rfl)
theorem dX4_unifiesBy_100 : decode cX4_unifiesBy 100 = .ok (.invokevirtual 293, 3) := dk_182 1 37 (dk_at dksX4_unifiesBy_4 6 rfl rfl)
theorem dX4_unifiesBy_103 : decode cX4_unifiesBy 103 = .ok (.goto 101, 3) := dk_167 0 101 (dk_at dksX4_unifiesBy_4 9 rfl rfl)
theorem dX4_unifiesBy_106 : decode cX4_unifiesBy 106 = .ok (.aload_n 0, 1) := dk_42 (dk_at dksX4_unifiesBy_4 12 rfl rfl)
theorem dX4_unifiesBy_107 : decode cX4_unifiesBy 107 = .ok (.aload_n 0, 1) := dk_42 (dk_at dksX4_unifiesBy_4 13 rfl rfl)
theorem dX4_unifiesBy_108 : decode cX4_unifiesBy 108 = .ok (.aload_n 0, 1) := dk_42 (dk_at dksX4_unifiesBy_4 14 rfl rfl)
theorem dX4_unifiesBy_109 : decode cX4_unifiesBy 109 = .ok (.iload_n 2, 1) := dk_28 (dk_at dksX4_unifiesBy_4 15 rfl rfl)
theorem dX4_unifiesBy_110 : decode cX4_unifiesBy 110 = .ok (.invokevirtual 290, 3) := dk_182 1 34 (dk_at dksX4_unifiesBy_4 16 rfl rfl)
theorem dX4_unifiesBy_113 : decode cX4_unifiesBy 113 = .ok (.invokevirtual 290, 3) := dk_182 1 34 (dk_at dksX4_unifiesBy_4 19 rfl rfl)
theorem dX4_unifiesBy_116 : decode cX4_unifiesBy 116 = .ok (.aload_n 0, 1) := dk_42 (dk_at dksX4_unifiesBy_4 22 rfl rfl)
theorem dX4_unifiesBy_117 : decode cX4_unifiesBy 117 = .ok (.iload_n 3, 1) := dk_29 (dk_at dksX4_unifiesBy_4 23 rfl rfl)
theorem dX4_unifiesBy_118 : decode cX4_unifiesBy 118 = .ok (.invokevirtual 290, 3) := dk_182 1 34 (dk_at dksX4_unifiesBy_5 0 rfl rfl)
theorem dX4_unifiesBy_121 : decode cX4_unifiesBy 121 = .ok (.invokevirtual 293, 3) := dk_182 1 37 (dk_at dksX4_unifiesBy_5 3 rfl rfl)
theorem dX4_unifiesBy_124 : decode cX4_unifiesBy 124 = .ok (.goto 80, 3) := dk_167 0 80 (dk_at dksX4_unifiesBy_5 6 rfl rfl)
theorem dX4_unifiesBy_127 : decode cX4_unifiesBy 127 = .ok (.aload_n 0, 1) := dk_42 (dk_at dksX4_unifiesBy_5 9 rfl rfl)
theorem dX4_unifiesBy_128 : decode cX4_unifiesBy 128 = .ok (.aload_n 0, 1) := dk_42 (dk_at dksX4_unifiesBy_5 10 rfl rfl)
theorem dX4_unifiesBy_129 : decode cX4_unifiesBy 129 = .ok (.iload_n 2, 1) := dk_28 (dk_at dksX4_unifiesBy_5 11 rfl rfl)
theorem dX4_unifiesBy_130 : decode cX4_unifiesBy 130 = .ok (.invokevirtual 290, 3) := dk_182 1 34 (dk_at dksX4_unifiesBy_5 12 rfl rfl)
theorem dX4_unifiesBy_133 : decode cX4_unifiesBy 133 = .ok (.bipush 20, 2) := dk_16 20 (dk_at dksX4_unifiesBy_5 15 rfl rfl)
theorem dX4_unifiesBy_135 : decode cX4_unifiesBy 135 = .ok (.aload_n 0, 1) := dk_42 (dk_at dksX4_unifiesBy_5 17 rfl rfl)
theorem dX4_unifiesBy_136 : decode cX4_unifiesBy 136 = .ok (.iload_n 1, 1) := dk_27 (dk_at dksX4_unifiesBy_5 18 rfl rfl)
theorem dX4_unifiesBy_137 : decode cX4_unifiesBy 137 = .ok (.invokevirtual 206, 3) := dk_182 0 206 (dk_at dksX4_unifiesBy_5 19 rfl rfl)
theorem dX4_unifiesBy_140 : decode cX4_unifiesBy 140 = .ok (.iadd, 1) := dk_96 (dk_at dksX4_unifiesBy_5 22 rfl rfl)
theorem dX4_unifiesBy_141 : decode cX4_unifiesBy 141 = .ok (.invokevirtual 293, 3) := dk_182 1 37 (dk_at dksX4_unifiesBy_6 0 rfl rfl)
theorem dX4_unifiesBy_144 : decode cX4_unifiesBy 144 = .ok (.goto 60, 3) := dk_167 0 60 (dk_at dksX4_unifiesBy_6 3 rfl rfl)
theorem dX4_unifiesBy_147 : decode cX4_unifiesBy 147 = .ok (.aload_n 0, 1) := dk_42 (dk_at dksX4_unifiesBy_6 6 rfl rfl)
theorem dX4_unifiesBy_148 : decode cX4_unifiesBy 148 = .ok (.aload_n 0, 1) := dk_42 (dk_at dksX4_unifiesBy_6 7 rfl rfl)
theorem dX4_unifiesBy_149 : decode cX4_unifiesBy 149 = .ok (.iconst 4, 1) := dk_7 (dk_at dksX4_unifiesBy_6 8 rfl rfl)
theorem dX4_unifiesBy_150 : decode cX4_unifiesBy 150 = .ok (.iconst 4, 1) := dk_7 (dk_at dksX4_unifiesBy_6 9 rfl rfl)
theorem dX4_unifiesBy_151 : decode cX4_unifiesBy 151 = .ok (.iload 4, 2) := dk_21 4 (dk_at dksX4_unifiesBy_6 10 rfl rfl)
theorem dX4_unifiesBy_153 : decode cX4_unifiesBy 153 = .ok (.imul, 1) := dk_104 (dk_at dksX4_unifiesBy_6 12 rfl rfl)
theorem dX4_unifiesBy_154 : decode cX4_unifiesBy 154 = .ok (.iadd, 1) := dk_96 (dk_at dksX4_unifiesBy_6 13 rfl rfl)
theorem dX4_unifiesBy_155 : decode cX4_unifiesBy 155 = .ok (.invokevirtual 290, 3) := dk_182 1 34 (dk_at dksX4_unifiesBy_6 14 rfl rfl)
theorem dX4_unifiesBy_158 : decode cX4_unifiesBy 158 = .ok (.aload_n 0, 1) := dk_42 (dk_at dksX4_unifiesBy_6 17 rfl rfl)
theorem dX4_unifiesBy_159 : decode cX4_unifiesBy 159 = .ok (.iload_n 3, 1) := dk_29 (dk_at dksX4_unifiesBy_6 18 rfl rfl)
theorem dX4_unifiesBy_160 : decode cX4_unifiesBy 160 = .ok (.invokevirtual 290, 3) := dk_182 1 34 (dk_at dksX4_unifiesBy_6 19 rfl rfl)
theorem dX4_unifiesBy_163 : decode cX4_unifiesBy 163 = .ok (.invokevirtual 293, 3) := dk_182 1 37 (dk_at dksX4_unifiesBy_7 0 rfl rfl)
theorem dX4_unifiesBy_166 : decode cX4_unifiesBy 166 = .ok (.aload_n 0, 1) := dk_42 (dk_at dksX4_unifiesBy_7 3 rfl rfl)
theorem dX4_unifiesBy_167 : decode cX4_unifiesBy 167 = .ok (.aload_n 0, 1) := dk_42 (dk_at dksX4_unifiesBy_7 4 rfl rfl)
theorem dX4_unifiesBy_168 : decode cX4_unifiesBy 168 = .ok (.iload_n 2, 1) := dk_28 (dk_at dksX4_unifiesBy_7 5 rfl rfl)
theorem dX4_unifiesBy_169 : decode cX4_unifiesBy 169 = .ok (.invokevirtual 290, 3) := dk_182 1 34 (dk_at dksX4_unifiesBy_7 6 rfl rfl)
theorem dX4_unifiesBy_172 : decode cX4_unifiesBy 172 = .ok (.aload_n 0, 1) := dk_42 (dk_at dksX4_unifiesBy_7 9 rfl rfl)
theorem dX4_unifiesBy_173 : decode cX4_unifiesBy 173 = .ok (.iconst 4, 1) := dk_7 (dk_at dksX4_unifiesBy_7 10 rfl rfl)
theorem dX4_unifiesBy_174 : decode cX4_unifiesBy 174 = .ok (.iconst 4, 1) := dk_7 (dk_at dksX4_unifiesBy_7 11 rfl rfl)
theorem dX4_unifiesBy_175 : decode cX4_unifiesBy 175 = .ok (.iload 4, 2) := dk_21 4 (dk_at dksX4_unifiesBy_7 12 rfl rfl)
theorem dX4_unifiesBy_177 : decode cX4_unifiesBy 177 = .ok (.imul, 1) := dk_104 (dk_at dksX4_unifiesBy_7 14 rfl rfl)
theorem dX4_unifiesBy_178 : decode cX4_unifiesBy 178 = .ok (.iadd, 1) := dk_96 (dk_at dksX4_unifiesBy_7 15 rfl rfl)
theorem dX4_unifiesBy_179 : decode cX4_unifiesBy 179 = .ok (.iconst 1, 1) := dk_4 (dk_at dksX4_unifiesBy_7 16 rfl rfl)
theorem dX4_unifiesBy_180 : decode cX4_unifiesBy 180 = .ok (.iadd, 1) := dk_96 (dk_at dksX4_unifiesBy_7 17 rfl rfl)
theorem dX4_unifiesBy_181 : decode cX4_unifiesBy 181 = .ok (.invokevirtual 290, 3) := dk_182 1 34 (dk_at dksX4_unifiesBy_7 18 rfl rfl)
theorem dX4_unifiesBy_184 : decode cX4_unifiesBy 184 = .ok (.invokevirtual 293, 3) := dk_182 1 37 (dk_at dksX4_unifiesBy_7 21 rfl rfl)
theorem dX4_unifiesBy_187 : decode cX4_unifiesBy 187 = .ok (.goto 17, 3) := dk_167 0 17 (dk_at dksX4_unifiesBy_8 0 rfl rfl)
theorem dX4_unifiesBy_190 : decode cX4_unifiesBy 190 = .ok (.aload_n 0, 1) := dk_42 (dk_at dksX4_unifiesBy_8 3 rfl rfl)
theorem dX4_unifiesBy_191 : decode cX4_unifiesBy 191 = .ok (.aload_n 0, 1) := dk_42 (dk_at dksX4_unifiesBy_8 4 rfl rfl)
theorem dX4_unifiesBy_192 : decode cX4_unifiesBy 192 = .ok (.iload_n 2, 1) := dk_28 (dk_at dksX4_unifiesBy_8 5 rfl rfl)
theorem dX4_unifiesBy_193 : decode cX4_unifiesBy 193 = .ok (.invokevirtual 290, 3) := dk_182 1 34 (dk_at dksX4_unifiesBy_8 6 rfl rfl)
theorem dX4_unifiesBy_196 : decode cX4_unifiesBy 196 = .ok (.aload_n 0, 1) := dk_42 (dk_at dksX4_unifiesBy_8 9 rfl rfl)
theorem dX4_unifiesBy_197 : decode cX4_unifiesBy 197 = .ok (.iload_n 3, 1) := dk_29 (dk_at dksX4_unifiesBy_8 10 rfl rfl)
theorem dX4_unifiesBy_198 : decode cX4_unifiesBy 198 = .ok (.invokevirtual 290, 3) := dk_182 1 34 (dk_at dksX4_unifiesBy_8 11 rfl rfl)
theorem dX4_unifiesBy_201 : decode cX4_unifiesBy 201 = .ok (.invokevirtual 293, 3) := dk_182 1 37 (dk_at dksX4_unifiesBy_8 14 rfl rfl)
theorem dX4_unifiesBy_204 : decode cX4_unifiesBy 204 = .ok (.return_, 1) := dk_177 (dk_at dksX4_unifiesBy_8 17 rfl rfl)
abbrev cX4_unifies : ByteArray := prog_21_method_73_code
def yX4_unifies : MethodName := ⟨RX4, "unifies", "(II)V"⟩
def dkwX4_unifies_7 : List UInt8 := [177]
abbrev dktX4_unifies_7 : List UInt8 := dkwX4_unifies_7 ++ []
def dkwX4_unifies_6 : List UInt8 := [180, 1, 31, 42, 180, 0, 54, 21, 4, 46, 79, 42, 89, 180, 1, 31, 4, 96, 181, 1, 31, 167, 255, 117]
abbrev dktX4_unifies_6 : List UInt8 := dkwX4_unifies_6 ++ dktX4_unifies_7
def dkwX4_unifies_5 : List UInt8 := [155, 0, 44, 42, 180, 0, 57, 42, 180, 1, 31, 42, 180, 0, 54, 29, 46, 79, 42, 180, 0, 60, 42]
abbrev dktX4_unifies_5 : List UInt8 := dkwX4_unifies_5 ++ dktX4_unifies_6
def dkwX4_unifies_4 : List UInt8 := [180, 0, 54, 29, 42, 180, 0, 54, 21, 4, 46, 79, 167, 0, 54, 42, 180, 0, 54, 21, 4, 46]
abbrev dktX4_unifies_4 : List UInt8 := dkwX4_unifies_4 ++ dktX4_unifies_5
def dkwX4_unifies_3 : List UInt8 := [160, 0, 6, 167, 255, 204, 42, 180, 0, 51, 21, 4, 29, 79, 42, 180, 0, 54, 29, 46, 156, 0, 19, 42]
abbrev dktX4_unifies_3 : List UInt8 := dkwX4_unifies_3 ++ dktX4_unifies_4
def dkwX4_unifies_2 : List UInt8 := [182, 1, 25, 62, 42, 42, 180, 0, 60, 42, 180, 1, 31, 46, 182, 1, 25, 54, 4, 29, 21, 4]
abbrev dktX4_unifies_2 : List UInt8 := dkwX4_unifies_2 ++ dktX4_unifies_3
def dkwX4_unifies_1 : List UInt8 := [158, 0, 138, 42, 89, 180, 1, 31, 4, 100, 181, 1, 31, 42, 42, 180, 0, 57, 42, 180, 1, 31, 46]
abbrev dktX4_unifies_1 : List UInt8 := dkwX4_unifies_1 ++ dktX4_unifies_2
def dkwX4_unifies_0 : List UInt8 := [42, 4, 181, 1, 31, 42, 180, 0, 57, 3, 27, 79, 42, 180, 0, 60, 3, 28, 79, 42, 180, 1, 31]
abbrev dktX4_unifies_0 : List UInt8 := dkwX4_unifies_0 ++ dktX4_unifies_1
theorem dksX4_unifies_0 : cX4_unifies.data.toList.drop 0 = dktX4_unifies_0 := by decide +kernel
theorem dksX4_unifies_1 : cX4_unifies.data.toList.drop 23 = dktX4_unifies_1 := dk_seg dksX4_unifies_0 23 rfl rfl
theorem dksX4_unifies_2 : cX4_unifies.data.toList.drop 46 = dktX4_unifies_2 := dk_seg dksX4_unifies_1 23 rfl rfl
theorem dksX4_unifies_3 : cX4_unifies.data.toList.drop 68 = dktX4_unifies_3 := dk_seg dksX4_unifies_2 22 rfl rfl
theorem dksX4_unifies_4 : cX4_unifies.data.toList.drop 92 = dktX4_unifies_4 := dk_seg dksX4_unifies_3 24 rfl rfl
theorem dksX4_unifies_5 : cX4_unifies.data.toList.drop 114 = dktX4_unifies_5 := dk_seg dksX4_unifies_4 22 rfl rfl
theorem dksX4_unifies_6 : cX4_unifies.data.toList.drop 137 = dktX4_unifies_6 := dk_seg dksX4_unifies_5 23 rfl rfl
theorem dksX4_unifies_7 : cX4_unifies.data.toList.drop 161 = dktX4_unifies_7 := dk_seg dksX4_unifies_6 24 rfl rfl
theorem dX4_unifies_0 : decode cX4_unifies 0 = .ok (.aload_n 0, 1) := dk_42 (dk_at dksX4_unifies_0 0 rfl rfl)
theorem dX4_unifies_1 : decode cX4_unifies 1 = .ok (.iconst 1, 1) := dk_4 (dk_at dksX4_unifies_0 1 rfl rfl)
theorem dX4_unifies_2 : decode cX4_unifies 2 = .ok (.putfield 287, 3) := dk_181 1 31 (dk_at dksX4_unifies_0 2 rfl rfl)
theorem dX4_unifies_5 : decode cX4_unifies 5 = .ok (.aload_n 0, 1) := dk_42 (dk_at dksX4_unifies_0 5 rfl rfl)
theorem dX4_unifies_6 : decode cX4_unifies 6 = .ok (.getfield 57, 3) := dk_180 0 57 (dk_at dksX4_unifies_0 6 rfl rfl)
theorem dX4_unifies_9 : decode cX4_unifies 9 = .ok (.iconst 0, 1) := dk_3 (dk_at dksX4_unifies_0 9 rfl rfl)
theorem dX4_unifies_10 : decode cX4_unifies 10 = .ok (.iload_n 1, 1) := dk_27 (dk_at dksX4_unifies_0 10 rfl rfl)
theorem dX4_unifies_11 : decode cX4_unifies 11 = .ok (.iastore, 1) := dk_79 (dk_at dksX4_unifies_0 11 rfl rfl)
theorem dX4_unifies_12 : decode cX4_unifies 12 = .ok (.aload_n 0, 1) := dk_42 (dk_at dksX4_unifies_0 12 rfl rfl)
theorem dX4_unifies_13 : decode cX4_unifies 13 = .ok (.getfield 60, 3) := dk_180 0 60 (dk_at dksX4_unifies_0 13 rfl rfl)
theorem dX4_unifies_16 : decode cX4_unifies 16 = .ok (.iconst 0, 1) := dk_3 (dk_at dksX4_unifies_0 16 rfl rfl)
theorem dX4_unifies_17 : decode cX4_unifies 17 = .ok (.iload_n 2, 1) := dk_28 (dk_at dksX4_unifies_0 17 rfl rfl)
theorem dX4_unifies_18 : decode cX4_unifies 18 = .ok (.iastore, 1) := dk_79 (dk_at dksX4_unifies_0 18 rfl rfl)
theorem dX4_unifies_19 : decode cX4_unifies 19 = .ok (.aload_n 0, 1) := dk_42 (dk_at dksX4_unifies_0 19 rfl rfl)
theorem dX4_unifies_20 : decode cX4_unifies 20 = .ok (.getfield 287, 3) := dk_180 1 31 (dk_at dksX4_unifies_0 20 rfl rfl)
theorem dX4_unifies_23 : decode cX4_unifies 23 = .ok (.ifCond .le 138, 3) := dk_158 0 138 (dk_at dksX4_unifies_1 0 rfl rfl)
theorem dX4_unifies_26 : decode cX4_unifies 26 = .ok (.aload_n 0, 1) := dk_42 (dk_at dksX4_unifies_1 3 rfl rfl)
theorem dX4_unifies_27 : decode cX4_unifies 27 = .ok (.dup, 1) := dk_89 (dk_at dksX4_unifies_1 4 rfl rfl)
theorem dX4_unifies_28 : decode cX4_unifies 28 = .ok (.getfield 287, 3) := dk_180 1 31 (dk_at dksX4_unifies_1 5 rfl rfl)
theorem dX4_unifies_31 : decode cX4_unifies 31 = .ok (.iconst 1, 1) := dk_4 (dk_at dksX4_unifies_1 8 rfl rfl)
theorem dX4_unifies_32 : decode cX4_unifies 32 = .ok (.isub, 1) := dk_100 (dk_at dksX4_unifies_1 9 rfl rfl)
theorem dX4_unifies_33 : decode cX4_unifies 33 = .ok (.putfield 287, 3) := dk_181 1 31 (dk_at dksX4_unifies_1 10 rfl rfl)
theorem dX4_unifies_36 : decode cX4_unifies 36 = .ok (.aload_n 0, 1) := dk_42 (dk_at dksX4_unifies_1 13 rfl rfl)
theorem dX4_unifies_37 : decode cX4_unifies 37 = .ok (.aload_n 0, 1) := dk_42 (dk_at dksX4_unifies_1 14 rfl rfl)
theorem dX4_unifies_38 : decode cX4_unifies 38 = .ok (.getfield 57, 3) := dk_180 0 57 (dk_at dksX4_unifies_1 15 rfl rfl)
theorem dX4_unifies_41 : decode cX4_unifies 41 = .ok (.aload_n 0, 1) := dk_42 (dk_at dksX4_unifies_1 18 rfl rfl)
theorem dX4_unifies_42 : decode cX4_unifies 42 = .ok (.getfield 287, 3) := dk_180 1 31 (dk_at dksX4_unifies_1 19 rfl rfl)
theorem dX4_unifies_45 : decode cX4_unifies 45 = .ok (.iaload, 1) := dk_46 (dk_at dksX4_unifies_1 22 rfl rfl)
theorem dX4_unifies_46 : decode cX4_unifies 46 = .ok (.invokevirtual 281, 3) := dk_182 1 25 (dk_at dksX4_unifies_2 0 rfl rfl)
theorem dX4_unifies_49 : decode cX4_unifies 49 = .ok (.istore_n 3, 1) := dk_62 (dk_at dksX4_unifies_2 3 rfl rfl)
theorem dX4_unifies_50 : decode cX4_unifies 50 = .ok (.aload_n 0, 1) := dk_42 (dk_at dksX4_unifies_2 4 rfl rfl)
theorem dX4_unifies_51 : decode cX4_unifies 51 = .ok (.aload_n 0, 1) := dk_42 (dk_at dksX4_unifies_2 5 rfl rfl)
theorem dX4_unifies_52 : decode cX4_unifies 52 = .ok (.getfield 60, 3) := dk_180 0 60 (dk_at dksX4_unifies_2 6 rfl rfl)
theorem dX4_unifies_55 : decode cX4_unifies 55 = .ok (.aload_n 0, 1) := dk_42 (dk_at dksX4_unifies_2 9 rfl rfl)
theorem dX4_unifies_56 : decode cX4_unifies 56 = .ok (.getfield 287, 3) := dk_180 1 31 (dk_at dksX4_unifies_2 10 rfl rfl)
theorem dX4_unifies_59 : decode cX4_unifies 59 = .ok (.iaload, 1) := dk_46 (dk_at dksX4_unifies_2 13 rfl rfl)
theorem dX4_unifies_60 : decode cX4_unifies 60 = .ok (.invokevirtual 281, 3) := dk_182 1 25 (dk_at dksX4_unifies_2 14 rfl rfl)
theorem dX4_unifies_63 : decode cX4_unifies 63 = .ok (.istore 4, 2) := dk_54 4 (dk_at dksX4_unifies_2 17 rfl rfl)
theorem dX4_unifies_65 : decode cX4_unifies 65 = .ok (.iload_n 3, 1) := dk_29 (dk_at dksX4_unifies_2 19 rfl rfl)
theorem dX4_unifies_66 : decode cX4_unifies 66 = .ok (.iload 4, 2) := dk_21 4 (dk_at dksX4_unifies_2 20 rfl rfl)
theorem dX4_unifies_68 : decode cX4_unifies 68 = .ok (.if_icmp .ne 6, 3) := dk_160 0 6 (dk_at dksX4_unifies_3 0 rfl rfl)
theorem dX4_unifies_71 : decode cX4_unifies 71 = .ok (.goto (-52), 3) := dk_167 255 204 (dk_at dksX4_unifies_3 3 rfl rfl)
theorem dX4_unifies_74 : decode cX4_unifies 74 = .ok (.aload_n 0, 1) := dk_42 (dk_at dksX4_unifies_3 6 rfl rfl)
theorem dX4_unifies_75 : decode cX4_unifies 75 = .ok (.getfield 51, 3) := dk_180 0 51 (dk_at dksX4_unifies_3 7 rfl rfl)
theorem dX4_unifies_78 : decode cX4_unifies 78 = .ok (.iload 4, 2) := dk_21 4 (dk_at dksX4_unifies_3 10 rfl rfl)
theorem dX4_unifies_80 : decode cX4_unifies 80 = .ok (.iload_n 3, 1) := dk_29 (dk_at dksX4_unifies_3 12 rfl rfl)
theorem dX4_unifies_81 : decode cX4_unifies 81 = .ok (.iastore, 1) := dk_79 (dk_at dksX4_unifies_3 13 rfl rfl)
theorem dX4_unifies_82 : decode cX4_unifies 82 = .ok (.aload_n 0, 1) := dk_42 (dk_at dksX4_unifies_3 14 rfl rfl)
theorem dX4_unifies_83 : decode cX4_unifies 83 = .ok (.getfield 54, 3) := dk_180 0 54 (dk_at dksX4_unifies_3 15 rfl rfl)
theorem dX4_unifies_86 : decode cX4_unifies 86 = .ok (.iload_n 3, 1) := dk_29 (dk_at dksX4_unifies_3 18 rfl rfl)
theorem dX4_unifies_87 : decode cX4_unifies 87 = .ok (.iaload, 1) := dk_46 (dk_at dksX4_unifies_3 19 rfl rfl)
theorem dX4_unifies_88 : decode cX4_unifies 88 = .ok (.ifCond .ge 19, 3) := dk_156 0 19 (dk_at dksX4_unifies_3 20 rfl rfl)
theorem dX4_unifies_91 : decode cX4_unifies 91 = .ok (.aload_n 0, 1) := dk_42 (dk_at dksX4_unifies_3 23 rfl rfl)
theorem dX4_unifies_92 : decode cX4_unifies 92 = .ok (.getfield 54, 3) := dk_180 0 54 (dk_at dksX4_unifies_4 0 rfl rfl)
theorem dX4_unifies_95 : decode cX4_unifies 95 = .ok (.iload_n 3, 1) := dk_29 (dk_at dksX4_unifies_4 3 rfl rfl)
theorem dX4_unifies_96 : decode cX4_unifies 96 = .ok (.aload_n 0, 1) := dk_42 (dk_at dksX4_unifies_4 4 rfl rfl)
theorem dX4_unifies_97 : decode cX4_unifies 97 = .ok (.getfield 54, 3) := dk_180 0 54 (dk_at dksX4_unifies_4 5 rfl rfl)
theorem dX4_unifies_100 : decode cX4_unifies 100 = .ok (.iload 4, 2) := dk_21 4 (dk_at dksX4_unifies_4 8 rfl rfl)
theorem dX4_unifies_102 : decode cX4_unifies 102 = .ok (.iaload, 1) := dk_46 (dk_at dksX4_unifies_4 10 rfl rfl)
theorem dX4_unifies_103 : decode cX4_unifies 103 = .ok (.iastore, 1) := dk_79 (dk_at dksX4_unifies_4 11 rfl rfl)
theorem dX4_unifies_104 : decode cX4_unifies 104 = .ok (.goto 54, 3) := dk_167 0 54 (dk_at dksX4_unifies_4 12 rfl rfl)
theorem dX4_unifies_107 : decode cX4_unifies 107 = .ok (.aload_n 0, 1) := dk_42 (dk_at dksX4_unifies_4 15 rfl rfl)
theorem dX4_unifies_108 : decode cX4_unifies 108 = .ok (.getfield 54, 3) := dk_180 0 54 (dk_at dksX4_unifies_4 16 rfl rfl)
theorem dX4_unifies_111 : decode cX4_unifies 111 = .ok (.iload 4, 2) := dk_21 4 (dk_at dksX4_unifies_4 19 rfl rfl)
theorem dX4_unifies_113 : decode cX4_unifies 113 = .ok (.iaload, 1) := dk_46 (dk_at dksX4_unifies_4 21 rfl rfl)
theorem dX4_unifies_114 : decode cX4_unifies 114 = .ok (.ifCond .lt 44, 3) := dk_155 0 44 (dk_at dksX4_unifies_5 0 rfl rfl)
theorem dX4_unifies_117 : decode cX4_unifies 117 = .ok (.aload_n 0, 1) := dk_42 (dk_at dksX4_unifies_5 3 rfl rfl)
theorem dX4_unifies_118 : decode cX4_unifies 118 = .ok (.getfield 57, 3) := dk_180 0 57 (dk_at dksX4_unifies_5 4 rfl rfl)
theorem dX4_unifies_121 : decode cX4_unifies 121 = .ok (.aload_n 0, 1) := dk_42 (dk_at dksX4_unifies_5 7 rfl rfl)
theorem dX4_unifies_122 : decode cX4_unifies 122 = .ok (.getfield 287, 3) := dk_180 1 31 (dk_at dksX4_unifies_5 8 rfl rfl)
theorem dX4_unifies_125 : decode cX4_unifies 125 = .ok (.aload_n 0, 1) := dk_42 (dk_at dksX4_unifies_5 11 rfl rfl)
theorem dX4_unifies_126 : decode cX4_unifies 126 = .ok (.getfield 54, 3) := dk_180 0 54 (dk_at dksX4_unifies_5 12 rfl rfl)
theorem dX4_unifies_129 : decode cX4_unifies 129 = .ok (.iload_n 3, 1) := dk_29 (dk_at dksX4_unifies_5 15 rfl rfl)
theorem dX4_unifies_130 : decode cX4_unifies 130 = .ok (.iaload, 1) := dk_46 (dk_at dksX4_unifies_5 16 rfl rfl)
theorem dX4_unifies_131 : decode cX4_unifies 131 = .ok (.iastore, 1) := dk_79 (dk_at dksX4_unifies_5 17 rfl rfl)
theorem dX4_unifies_132 : decode cX4_unifies 132 = .ok (.aload_n 0, 1) := dk_42 (dk_at dksX4_unifies_5 18 rfl rfl)
theorem dX4_unifies_133 : decode cX4_unifies 133 = .ok (.getfield 60, 3) := dk_180 0 60 (dk_at dksX4_unifies_5 19 rfl rfl)
theorem dX4_unifies_136 : decode cX4_unifies 136 = .ok (.aload_n 0, 1) := dk_42 (dk_at dksX4_unifies_5 22 rfl rfl)
theorem dX4_unifies_137 : decode cX4_unifies 137 = .ok (.getfield 287, 3) := dk_180 1 31 (dk_at dksX4_unifies_6 0 rfl rfl)
theorem dX4_unifies_140 : decode cX4_unifies 140 = .ok (.aload_n 0, 1) := dk_42 (dk_at dksX4_unifies_6 3 rfl rfl)
theorem dX4_unifies_141 : decode cX4_unifies 141 = .ok (.getfield 54, 3) := dk_180 0 54 (dk_at dksX4_unifies_6 4 rfl rfl)
theorem dX4_unifies_144 : decode cX4_unifies 144 = .ok (.iload 4, 2) := dk_21 4 (dk_at dksX4_unifies_6 7 rfl rfl)
theorem dX4_unifies_146 : decode cX4_unifies 146 = .ok (.iaload, 1) := dk_46 (dk_at dksX4_unifies_6 9 rfl rfl)
theorem dX4_unifies_147 : decode cX4_unifies 147 = .ok (.iastore, 1) := dk_79 (dk_at dksX4_unifies_6 10 rfl rfl)
theorem dX4_unifies_148 : decode cX4_unifies 148 = .ok (.aload_n 0, 1) := dk_42 (dk_at dksX4_unifies_6 11 rfl rfl)
theorem dX4_unifies_149 : decode cX4_unifies 149 = .ok (.dup, 1) := dk_89 (dk_at dksX4_unifies_6 12 rfl rfl)
theorem dX4_unifies_150 : decode cX4_unifies 150 = .ok (.getfield 287, 3) := dk_180 1 31 (dk_at dksX4_unifies_6 13 rfl rfl)
theorem dX4_unifies_153 : decode cX4_unifies 153 = .ok (.iconst 1, 1) := dk_4 (dk_at dksX4_unifies_6 16 rfl rfl)
theorem dX4_unifies_154 : decode cX4_unifies 154 = .ok (.iadd, 1) := dk_96 (dk_at dksX4_unifies_6 17 rfl rfl)
theorem dX4_unifies_155 : decode cX4_unifies 155 = .ok (.putfield 287, 3) := dk_181 1 31 (dk_at dksX4_unifies_6 18 rfl rfl)
theorem dX4_unifies_158 : decode cX4_unifies 158 = .ok (.goto (-139), 3) := dk_167 255 117 (dk_at dksX4_unifies_6 21 rfl rfl)
theorem dX4_unifies_161 : decode cX4_unifies 161 = .ok (.return_, 1) := dk_177 (dk_at dksX4_unifies_7 0 rfl rfl)
abbrev cX4_contextsOf : ByteArray := prog_21_method_49_code
def yX4_contextsOf : MethodName := ⟨RX4, "contextsOf", "(I)I"⟩
def dkwX4_contextsOf_1 : List UInt8 := [167, 0, 4, 3, 96, 61, 132, 3, 1, 167, 255, 227, 28, 172]
abbrev dktX4_contextsOf_1 : List UInt8 := dkwX4_contextsOf_1 ++ []
def dkwX4_contextsOf_0 : List UInt8 := [3, 61, 3, 62, 29, 42, 180, 0, 174, 162, 0, 27, 28, 42, 180, 0, 32, 29, 46, 27, 160, 0, 7, 4]
abbrev dktX4_contextsOf_0 : List UInt8 := dkwX4_contextsOf_0 ++ dktX4_contextsOf_1
theorem dksX4_contextsOf_0 : cX4_contextsOf.data.toList.drop 0 = dktX4_contextsOf_0 := by decide +kernel
theorem dksX4_contextsOf_1 : cX4_contextsOf.data.toList.drop 24 = dktX4_contextsOf_1 := dk_seg dksX4_contextsOf_0 24 rfl rfl
theorem dX4_contextsOf_0 : decode cX4_contextsOf 0 = .ok (.iconst 0, 1) := dk_3 (dk_at dksX4_contextsOf_0 0 rfl rfl)
theorem dX4_contextsOf_1 : decode cX4_contextsOf 1 = .ok (.istore_n 2, 1) := dk_61 (dk_at dksX4_contextsOf_0 1 rfl rfl)
theorem dX4_contextsOf_2 : decode cX4_contextsOf 2 = .ok (.iconst 0, 1) := dk_3 (dk_at dksX4_contextsOf_0 2 rfl rfl)
theorem dX4_contextsOf_3 : decode cX4_contextsOf 3 = .ok (.istore_n 3, 1) := dk_62 (dk_at dksX4_contextsOf_0 3 rfl rfl)
theorem dX4_contextsOf_4 : decode cX4_contextsOf 4 = .ok (.iload_n 3, 1) := dk_29 (dk_at dksX4_contextsOf_0 4 rfl rfl)
theorem dX4_contextsOf_5 : decode cX4_contextsOf 5 = .ok (.aload_n 0, 1) := dk_42 (dk_at dksX4_contextsOf_0 5 rfl rfl)
theorem dX4_contextsOf_6 : decode cX4_contextsOf 6 = .ok (.getfield 174, 3) := dk_180 0 174 (dk_at dksX4_contextsOf_0 6 rfl rfl)
theorem dX4_contextsOf_9 : decode cX4_contextsOf 9 = .ok (.if_icmp .ge 27, 3) := dk_162 0 27 (dk_at dksX4_contextsOf_0 9 rfl rfl)
theorem dX4_contextsOf_12 : decode cX4_contextsOf 12 = .ok (.iload_n 2, 1) := dk_28 (dk_at dksX4_contextsOf_0 12 rfl rfl)
theorem dX4_contextsOf_13 : decode cX4_contextsOf 13 = .ok (.aload_n 0, 1) := dk_42 (dk_at dksX4_contextsOf_0 13 rfl rfl)
theorem dX4_contextsOf_14 : decode cX4_contextsOf 14 = .ok (.getfield 32, 3) := dk_180 0 32 (dk_at dksX4_contextsOf_0 14 rfl rfl)
theorem dX4_contextsOf_17 : decode cX4_contextsOf 17 = .ok (.iload_n 3, 1) := dk_29 (dk_at dksX4_contextsOf_0 17 rfl rfl)
theorem dX4_contextsOf_18 : decode cX4_contextsOf 18 = .ok (.iaload, 1) := dk_46 (dk_at dksX4_contextsOf_0 18 rfl rfl)
theorem dX4_contextsOf_19 : decode cX4_contextsOf 19 = .ok (.iload_n 1, 1) := dk_27 (dk_at dksX4_contextsOf_0 19 rfl rfl)
theorem dX4_contextsOf_20 : decode cX4_contextsOf 20 = .ok (.if_icmp .ne 7, 3) := dk_160 0 7 (dk_at dksX4_contextsOf_0 20 rfl rfl)
theorem dX4_contextsOf_23 : decode cX4_contextsOf 23 = .ok (.iconst 1, 1) := dk_4 (dk_at dksX4_contextsOf_0 23 rfl rfl)
theorem dX4_contextsOf_24 : decode cX4_contextsOf 24 = .ok (.goto 4, 3) := dk_167 0 4 (dk_at dksX4_contextsOf_1 0 rfl rfl)
theorem dX4_contextsOf_27 : decode cX4_contextsOf 27 = .ok (.iconst 0, 1) := dk_3 (dk_at dksX4_contextsOf_1 3 rfl rfl)
theorem dX4_contextsOf_28 : decode cX4_contextsOf 28 = .ok (.iadd, 1) := dk_96 (dk_at dksX4_contextsOf_1 4 rfl rfl)
theorem dX4_contextsOf_29 : decode cX4_contextsOf 29 = .ok (.istore_n 2, 1) := dk_61 (dk_at dksX4_contextsOf_1 5 rfl rfl)
theorem dX4_contextsOf_30 : decode cX4_contextsOf 30 = .ok (.iinc 3 1, 3) := dk_132 3 1 (dk_at dksX4_contextsOf_1 6 rfl rfl)
theorem dX4_contextsOf_33 : decode cX4_contextsOf 33 = .ok (.goto (-29), 3) := dk_167 255 227 (dk_at dksX4_contextsOf_1 9 rfl rfl)
theorem dX4_contextsOf_36 : decode cX4_contextsOf 36 = .ok (.iload_n 2, 1) := dk_28 (dk_at dksX4_contextsOf_1 12 rfl rfl)
theorem dX4_contextsOf_37 : decode cX4_contextsOf 37 = .ok (.ireturn, 1) := dk_172 (dk_at dksX4_contextsOf_1 13 rfl rfl)
abbrev cX4_contextLength : ByteArray := prog_21_method_52_code
def yX4_contextLength : MethodName := ⟨RX4, "contextLength", "(II)I"⟩
def dkwX4_contextLength_1 : List UInt8 := [17, 39, 16, 108, 172]
abbrev dktX4_contextLength_1 : List UInt8 := dkwX4_contextLength_1 ++ []
def dkwX4_contextLength_0 : List UInt8 := [42, 27, 28, 182, 0, 244, 62, 29, 156, 0, 9, 42, 4, 182, 0, 98, 172, 42, 3, 181, 0, 84, 29]
abbrev dktX4_contextLength_0 : List UInt8 := dkwX4_contextLength_0 ++ dktX4_contextLength_1
theorem dksX4_contextLength_0 : cX4_contextLength.data.toList.drop 0 = dktX4_contextLength_0 := by decide +kernel
theorem dksX4_contextLength_1 : cX4_contextLength.data.toList.drop 23 = dktX4_contextLength_1 := dk_seg dksX4_contextLength_0 23 rfl rfl
theorem dX4_contextLength_0 : decode cX4_contextLength 0 = .ok (.aload_n 0, 1) := dk_42 (dk_at dksX4_contextLength_0 0 rfl rfl)
theorem dX4_contextLength_1 : decode cX4_contextLength 1 = .ok (.iload_n 1, 1) := dk_27 (dk_at dksX4_contextLength_0 1 rfl rfl)
theorem dX4_contextLength_2 : decode cX4_contextLength 2 = .ok (.iload_n 2, 1) := dk_28 (dk_at dksX4_contextLength_0 2 rfl rfl)
theorem dX4_contextLength_3 : decode cX4_contextLength 3 = .ok (.invokevirtual 244, 3) := dk_182 0 244 (dk_at dksX4_contextLength_0 3 rfl rfl)
theorem dX4_contextLength_6 : decode cX4_contextLength 6 = .ok (.istore_n 3, 1) := dk_62 (dk_at dksX4_contextLength_0 6 rfl rfl)
theorem dX4_contextLength_7 : decode cX4_contextLength 7 = .ok (.iload_n 3, 1) := dk_29 (dk_at dksX4_contextLength_0 7 rfl rfl)
theorem dX4_contextLength_8 : decode cX4_contextLength 8 = .ok (.ifCond .ge 9, 3) := dk_156 0 9 (dk_at dksX4_contextLength_0 8 rfl rfl)
theorem dX4_contextLength_11 : decode cX4_contextLength 11 = .ok (.aload_n 0, 1) := dk_42 (dk_at dksX4_contextLength_0 11 rfl rfl)
theorem dX4_contextLength_12 : decode cX4_contextLength 12 = .ok (.iconst 1, 1) := dk_4 (dk_at dksX4_contextLength_0 12 rfl rfl)
theorem dX4_contextLength_13 : decode cX4_contextLength 13 = .ok (.invokevirtual 98, 3) := dk_182 0 98 (dk_at dksX4_contextLength_0 13 rfl rfl)
theorem dX4_contextLength_16 : decode cX4_contextLength 16 = .ok (.ireturn, 1) := dk_172 (dk_at dksX4_contextLength_0 16 rfl rfl)
theorem dX4_contextLength_17 : decode cX4_contextLength 17 = .ok (.aload_n 0, 1) := dk_42 (dk_at dksX4_contextLength_0 17 rfl rfl)
theorem dX4_contextLength_18 : decode cX4_contextLength 18 = .ok (.iconst 0, 1) := dk_3 (dk_at dksX4_contextLength_0 18 rfl rfl)
theorem dX4_contextLength_19 : decode cX4_contextLength 19 = .ok (.putfield 84, 3) := dk_181 0 84 (dk_at dksX4_contextLength_0 19 rfl rfl)
theorem dX4_contextLength_22 : decode cX4_contextLength 22 = .ok (.iload_n 3, 1) := dk_29 (dk_at dksX4_contextLength_0 22 rfl rfl)
theorem dX4_contextLength_23 : decode cX4_contextLength 23 = .ok (.sipush 10000, 3) := dk_17 39 16 (dk_at dksX4_contextLength_1 0 rfl rfl)
theorem dX4_contextLength_26 : decode cX4_contextLength 26 = .ok (.idiv, 1) := dk_108 (dk_at dksX4_contextLength_1 3 rfl rfl)
theorem dX4_contextLength_27 : decode cX4_contextLength 27 = .ok (.ireturn, 1) := dk_172 (dk_at dksX4_contextLength_1 4 rfl rfl)
abbrev cX4_codeOf : ByteArray := prog_21_method_51_code
def yX4_codeOf : MethodName := ⟨RX4, "codeOf", "(II)I"⟩
def dkwX4_codeOf_1 : List UInt8 := [184, 0, 94, 153, 0, 18, 42, 180, 0, 35, 42, 27, 182, 0, 241, 28, 96, 46, 167, 0, 4, 2, 172]
abbrev dktX4_codeOf_1 : List UInt8 := dkwX4_codeOf_1 ++ []
def dkwX4_codeOf_0 : List UInt8 := [27, 184, 0, 141, 154, 0, 5, 2, 172, 42, 182, 0, 235, 28, 3, 42, 27, 182, 0, 238, 4, 100]
abbrev dktX4_codeOf_0 : List UInt8 := dkwX4_codeOf_0 ++ dktX4_codeOf_1
theorem dksX4_codeOf_0 : cX4_codeOf.data.toList.drop 0 = dktX4_codeOf_0 := by decide +kernel
theorem dksX4_codeOf_1 : cX4_codeOf.data.toList.drop 22 = dktX4_codeOf_1 := dk_seg dksX4_codeOf_0 22 rfl rfl
theorem dX4_codeOf_0 : decode cX4_codeOf 0 = .ok (.iload_n 1, 1) := dk_27 (dk_at dksX4_codeOf_0 0 rfl rfl)
theorem dX4_codeOf_1 : decode cX4_codeOf 1 = .ok (.invokestatic 141, 3) := dk_184 0 141 (dk_at dksX4_codeOf_0 1 rfl rfl)
theorem dX4_codeOf_4 : decode cX4_codeOf 4 = .ok (.ifCond .ne 5, 3) := dk_154 0 5 (dk_at dksX4_codeOf_0 4 rfl rfl)
theorem dX4_codeOf_7 : decode cX4_codeOf 7 = .ok (.iconst (-1), 1) := dk_2 (dk_at dksX4_codeOf_0 7 rfl rfl)
theorem dX4_codeOf_8 : decode cX4_codeOf 8 = .ok (.ireturn, 1) := dk_172 (dk_at dksX4_codeOf_0 8 rfl rfl)
theorem dX4_codeOf_9 : decode cX4_codeOf 9 = .ok (.aload_n 0, 1) := dk_42 (dk_at dksX4_codeOf_0 9 rfl rfl)
theorem dX4_codeOf_10 : decode cX4_codeOf 10 = .ok (.invokevirtual 235, 3) := dk_182 0 235 (dk_at dksX4_codeOf_0 10 rfl rfl)
theorem dX4_codeOf_13 : decode cX4_codeOf 13 = .ok (.iload_n 2, 1) := dk_28 (dk_at dksX4_codeOf_0 13 rfl rfl)
theorem dX4_codeOf_14 : decode cX4_codeOf 14 = .ok (.iconst 0, 1) := dk_3 (dk_at dksX4_codeOf_0 14 rfl rfl)
theorem dX4_codeOf_15 : decode cX4_codeOf 15 = .ok (.aload_n 0, 1) := dk_42 (dk_at dksX4_codeOf_0 15 rfl rfl)
theorem dX4_codeOf_16 : decode cX4_codeOf 16 = .ok (.iload_n 1, 1) := dk_27 (dk_at dksX4_codeOf_0 16 rfl rfl)
theorem dX4_codeOf_17 : decode cX4_codeOf 17 = .ok (.invokevirtual 238, 3) := dk_182 0 238 (dk_at dksX4_codeOf_0 17 rfl rfl)
theorem dX4_codeOf_20 : decode cX4_codeOf 20 = .ok (.iconst 1, 1) := dk_4 (dk_at dksX4_codeOf_0 20 rfl rfl)
theorem dX4_codeOf_21 : decode cX4_codeOf 21 = .ok (.isub, 1) := dk_100 (dk_at dksX4_codeOf_0 21 rfl rfl)
theorem dX4_codeOf_22 : decode cX4_codeOf 22 = .ok (.invokestatic 94, 3) := dk_184 0 94 (dk_at dksX4_codeOf_1 0 rfl rfl)
theorem dX4_codeOf_25 : decode cX4_codeOf 25 = .ok (.ifCond .eq 18, 3) := dk_153 0 18 (dk_at dksX4_codeOf_1 3 rfl rfl)
theorem dX4_codeOf_28 : decode cX4_codeOf 28 = .ok (.aload_n 0, 1) := dk_42 (dk_at dksX4_codeOf_1 6 rfl rfl)
theorem dX4_codeOf_29 : decode cX4_codeOf 29 = .ok (.getfield 35, 3) := dk_180 0 35 (dk_at dksX4_codeOf_1 7 rfl rfl)
theorem dX4_codeOf_32 : decode cX4_codeOf 32 = .ok (.aload_n 0, 1) := dk_42 (dk_at dksX4_codeOf_1 10 rfl rfl)
theorem dX4_codeOf_33 : decode cX4_codeOf 33 = .ok (.iload_n 1, 1) := dk_27 (dk_at dksX4_codeOf_1 11 rfl rfl)
theorem dX4_codeOf_34 : decode cX4_codeOf 34 = .ok (.invokevirtual 241, 3) := dk_182 0 241 (dk_at dksX4_codeOf_1 12 rfl rfl)
theorem dX4_codeOf_37 : decode cX4_codeOf 37 = .ok (.iload_n 2, 1) := dk_28 (dk_at dksX4_codeOf_1 15 rfl rfl)
theorem dX4_codeOf_38 : decode cX4_codeOf 38 = .ok (.iadd, 1) := dk_96 (dk_at dksX4_codeOf_1 16 rfl rfl)
theorem dX4_codeOf_39 : decode cX4_codeOf 39 = .ok (.iaload, 1) := dk_46 (dk_at dksX4_codeOf_1 17 rfl rfl)
theorem dX4_codeOf_40 : decode cX4_codeOf 40 = .ok (.goto 4, 3) := dk_167 0 4 (dk_at dksX4_codeOf_1 18 rfl rfl)
theorem dX4_codeOf_43 : decode cX4_codeOf 43 = .ok (.iconst (-1), 1) := dk_2 (dk_at dksX4_codeOf_1 21 rfl rfl)
theorem dX4_codeOf_44 : decode cX4_codeOf 44 = .ok (.ireturn, 1) := dk_172 (dk_at dksX4_codeOf_1 22 rfl rfl)
abbrev cX4_firstOf : ByteArray := prog_21_method_48_code
def yX4_firstOf : MethodName := ⟨RX4, "firstOf", "(I)I"⟩
def dkwX4_firstOf_1 : List UInt8 := [167, 255, 235, 28, 172]
abbrev dktX4_firstOf_1 : List UInt8 := dkwX4_firstOf_1 ++ []
def dkwX4_firstOf_0 : List UInt8 := [3, 61, 28, 42, 180, 0, 174, 162, 0, 19, 42, 180, 0, 32, 28, 46, 27, 162, 0, 9, 132, 2, 1]
abbrev dktX4_firstOf_0 : List UInt8 := dkwX4_firstOf_0 ++ dktX4_firstOf_1
theorem dksX4_firstOf_0 : cX4_firstOf.data.toList.drop 0 = dktX4_firstOf_0 := by decide +kernel
theorem dksX4_firstOf_1 : cX4_firstOf.data.toList.drop 23 = dktX4_firstOf_1 := dk_seg dksX4_firstOf_0 23 rfl rfl
theorem dX4_firstOf_0 : decode cX4_firstOf 0 = .ok (.iconst 0, 1) := dk_3 (dk_at dksX4_firstOf_0 0 rfl rfl)
theorem dX4_firstOf_1 : decode cX4_firstOf 1 = .ok (.istore_n 2, 1) := dk_61 (dk_at dksX4_firstOf_0 1 rfl rfl)
theorem dX4_firstOf_2 : decode cX4_firstOf 2 = .ok (.iload_n 2, 1) := dk_28 (dk_at dksX4_firstOf_0 2 rfl rfl)
theorem dX4_firstOf_3 : decode cX4_firstOf 3 = .ok (.aload_n 0, 1) := dk_42 (dk_at dksX4_firstOf_0 3 rfl rfl)
theorem dX4_firstOf_4 : decode cX4_firstOf 4 = .ok (.getfield 174, 3) := dk_180 0 174 (dk_at dksX4_firstOf_0 4 rfl rfl)
theorem dX4_firstOf_7 : decode cX4_firstOf 7 = .ok (.if_icmp .ge 19, 3) := dk_162 0 19 (dk_at dksX4_firstOf_0 7 rfl rfl)
theorem dX4_firstOf_10 : decode cX4_firstOf 10 = .ok (.aload_n 0, 1) := dk_42 (dk_at dksX4_firstOf_0 10 rfl rfl)
theorem dX4_firstOf_11 : decode cX4_firstOf 11 = .ok (.getfield 32, 3) := dk_180 0 32 (dk_at dksX4_firstOf_0 11 rfl rfl)
theorem dX4_firstOf_14 : decode cX4_firstOf 14 = .ok (.iload_n 2, 1) := dk_28 (dk_at dksX4_firstOf_0 14 rfl rfl)
theorem dX4_firstOf_15 : decode cX4_firstOf 15 = .ok (.iaload, 1) := dk_46 (dk_at dksX4_firstOf_0 15 rfl rfl)
theorem dX4_firstOf_16 : decode cX4_firstOf 16 = .ok (.iload_n 1, 1) := dk_27 (dk_at dksX4_firstOf_0 16 rfl rfl)
theorem dX4_firstOf_17 : decode cX4_firstOf 17 = .ok (.if_icmp .ge 9, 3) := dk_162 0 9 (dk_at dksX4_firstOf_0 17 rfl rfl)
theorem dX4_firstOf_20 : decode cX4_firstOf 20 = .ok (.iinc 2 1, 3) := dk_132 2 1 (dk_at dksX4_firstOf_0 20 rfl rfl)
theorem dX4_firstOf_23 : decode cX4_firstOf 23 = .ok (.goto (-21), 3) := dk_167 255 235 (dk_at dksX4_firstOf_1 0 rfl rfl)
theorem dX4_firstOf_26 : decode cX4_firstOf 26 = .ok (.iload_n 2, 1) := dk_28 (dk_at dksX4_firstOf_1 3 rfl rfl)
theorem dX4_firstOf_27 : decode cX4_firstOf 27 = .ok (.ireturn, 1) := dk_172 (dk_at dksX4_firstOf_1 4 rfl rfl)
abbrev cX4_contextCall : ByteArray := prog_21_method_53_code
def yX4_contextCall : MethodName := ⟨RX4, "contextCall", "(III)I"⟩
def dkwX4_contextCall_2 : List UInt8 := [160, 0, 18, 29, 154, 0, 14, 21, 4, 16, 100, 108, 16, 100, 112, 167, 0, 8, 21, 4, 16, 100, 112, 172]
abbrev dktX4_contextCall_2 : List UInt8 := dkwX4_contextCall_2 ++ []
def dkwX4_contextCall_1 : List UInt8 := [184, 0, 94, 154, 0, 9, 42, 4, 182, 0, 98, 172, 42, 3, 181, 0, 84, 21, 4, 17, 39, 16, 108, 5]
abbrev dktX4_contextCall_1 : List UInt8 := dkwX4_contextCall_1 ++ dktX4_contextCall_2
def dkwX4_contextCall_0 : List UInt8 := [42, 27, 28, 182, 0, 244, 54, 4, 21, 4, 155, 0, 19, 29, 3, 21, 4, 17, 39, 16, 108, 4, 100]
abbrev dktX4_contextCall_0 : List UInt8 := dkwX4_contextCall_0 ++ dktX4_contextCall_1
theorem dksX4_contextCall_0 : cX4_contextCall.data.toList.drop 0 = dktX4_contextCall_0 := by decide +kernel
theorem dksX4_contextCall_1 : cX4_contextCall.data.toList.drop 23 = dktX4_contextCall_1 := dk_seg dksX4_contextCall_0 23 rfl rfl
theorem dksX4_contextCall_2 : cX4_contextCall.data.toList.drop 47 = dktX4_contextCall_2 := dk_seg dksX4_contextCall_1 24 rfl rfl
theorem dX4_contextCall_0 : decode cX4_contextCall 0 = .ok (.aload_n 0, 1) := dk_42 (dk_at dksX4_contextCall_0 0 rfl rfl)
theorem dX4_contextCall_1 : decode cX4_contextCall 1 = .ok (.iload_n 1, 1) := dk_27 (dk_at dksX4_contextCall_0 1 rfl rfl)
theorem dX4_contextCall_2 : decode cX4_contextCall 2 = .ok (.iload_n 2, 1) := dk_28 (dk_at dksX4_contextCall_0 2 rfl rfl)
theorem dX4_contextCall_3 : decode cX4_contextCall 3 = .ok (.invokevirtual 244, 3) := dk_182 0 244 (dk_at dksX4_contextCall_0 3 rfl rfl)
theorem dX4_contextCall_6 : decode cX4_contextCall 6 = .ok (.istore 4, 2) := dk_54 4 (dk_at dksX4_contextCall_0 6 rfl rfl)
theorem dX4_contextCall_8 : decode cX4_contextCall 8 = .ok (.iload 4, 2) := dk_21 4 (dk_at dksX4_contextCall_0 8 rfl rfl)
theorem dX4_contextCall_10 : decode cX4_contextCall 10 = .ok (.ifCond .lt 19, 3) := dk_155 0 19 (dk_at dksX4_contextCall_0 10 rfl rfl)
theorem dX4_contextCall_13 : decode cX4_contextCall 13 = .ok (.iload_n 3, 1) := dk_29 (dk_at dksX4_contextCall_0 13 rfl rfl)
theorem dX4_contextCall_14 : decode cX4_contextCall 14 = .ok (.iconst 0, 1) := dk_3 (dk_at dksX4_contextCall_0 14 rfl rfl)
theorem dX4_contextCall_15 : decode cX4_contextCall 15 = .ok (.iload 4, 2) := dk_21 4 (dk_at dksX4_contextCall_0 15 rfl rfl)
theorem dX4_contextCall_17 : decode cX4_contextCall 17 = .ok (.sipush 10000, 3) := dk_17 39 16 (dk_at dksX4_contextCall_0 17 rfl rfl)
theorem dX4_contextCall_20 : decode cX4_contextCall 20 = .ok (.idiv, 1) := dk_108 (dk_at dksX4_contextCall_0 20 rfl rfl)
theorem dX4_contextCall_21 : decode cX4_contextCall 21 = .ok (.iconst 1, 1) := dk_4 (dk_at dksX4_contextCall_0 21 rfl rfl)
theorem dX4_contextCall_22 : decode cX4_contextCall 22 = .ok (.isub, 1) := dk_100 (dk_at dksX4_contextCall_0 22 rfl rfl)
theorem dX4_contextCall_23 : decode cX4_contextCall 23 = .ok (.invokestatic 94, 3) := dk_184 0 94 (dk_at dksX4_contextCall_1 0 rfl rfl)
theorem dX4_contextCall_26 : decode cX4_contextCall 26 = .ok (.ifCond .ne 9, 3) := dk_154 0 9 (dk_at dksX4_contextCall_1 3 rfl rfl)
theorem dX4_contextCall_29 : decode cX4_contextCall 29 = .ok (.aload_n 0, 1) := dk_42 (dk_at dksX4_contextCall_1 6 rfl rfl)
theorem dX4_contextCall_30 : decode cX4_contextCall 30 = .ok (.iconst 1, 1) := dk_4 (dk_at dksX4_contextCall_1 7 rfl rfl)
theorem dX4_contextCall_31 : decode cX4_contextCall 31 = .ok (.invokevirtual 98, 3) := dk_182 0 98 (dk_at dksX4_contextCall_1 8 rfl rfl)
theorem dX4_contextCall_34 : decode cX4_contextCall 34 = .ok (.ireturn, 1) := dk_172 (dk_at dksX4_contextCall_1 11 rfl rfl)
theorem dX4_contextCall_35 : decode cX4_contextCall 35 = .ok (.aload_n 0, 1) := dk_42 (dk_at dksX4_contextCall_1 12 rfl rfl)
theorem dX4_contextCall_36 : decode cX4_contextCall 36 = .ok (.iconst 0, 1) := dk_3 (dk_at dksX4_contextCall_1 13 rfl rfl)
theorem dX4_contextCall_37 : decode cX4_contextCall 37 = .ok (.putfield 84, 3) := dk_181 0 84 (dk_at dksX4_contextCall_1 14 rfl rfl)
theorem dX4_contextCall_40 : decode cX4_contextCall 40 = .ok (.iload 4, 2) := dk_21 4 (dk_at dksX4_contextCall_1 17 rfl rfl)
theorem dX4_contextCall_42 : decode cX4_contextCall 42 = .ok (.sipush 10000, 3) := dk_17 39 16 (dk_at dksX4_contextCall_1 19 rfl rfl)
theorem dX4_contextCall_45 : decode cX4_contextCall 45 = .ok (.idiv, 1) := dk_108 (dk_at dksX4_contextCall_1 22 rfl rfl)
theorem dX4_contextCall_46 : decode cX4_contextCall 46 = .ok (.iconst 2, 1) := dk_5 (dk_at dksX4_contextCall_1 23 rfl rfl)
theorem dX4_contextCall_47 : decode cX4_contextCall 47 = .ok (.if_icmp .ne 18, 3) := dk_160 0 18 (dk_at dksX4_contextCall_2 0 rfl rfl)
theorem dX4_contextCall_50 : decode cX4_contextCall 50 = .ok (.iload_n 3, 1) := dk_29 (dk_at dksX4_contextCall_2 3 rfl rfl)
theorem dX4_contextCall_51 : decode cX4_contextCall 51 = .ok (.ifCond .ne 14, 3) := dk_154 0 14 (dk_at dksX4_contextCall_2 4 rfl rfl)
theorem dX4_contextCall_54 : decode cX4_contextCall 54 = .ok (.iload 4, 2) := dk_21 4 (dk_at dksX4_contextCall_2 7 rfl rfl)
theorem dX4_contextCall_56 : decode cX4_contextCall 56 = .ok (.bipush 100, 2) := dk_16 100 (dk_at dksX4_contextCall_2 9 rfl rfl)
theorem dX4_contextCall_58 : decode cX4_contextCall 58 = .ok (.idiv, 1) := dk_108 (dk_at dksX4_contextCall_2 11 rfl rfl)
theorem dX4_contextCall_59 : decode cX4_contextCall 59 = .ok (.bipush 100, 2) := dk_16 100 (dk_at dksX4_contextCall_2 12 rfl rfl)
theorem dX4_contextCall_61 : decode cX4_contextCall 61 = .ok (.irem, 1) := dk_112 (dk_at dksX4_contextCall_2 14 rfl rfl)
theorem dX4_contextCall_62 : decode cX4_contextCall 62 = .ok (.goto 8, 3) := dk_167 0 8 (dk_at dksX4_contextCall_2 15 rfl rfl)
theorem dX4_contextCall_65 : decode cX4_contextCall 65 = .ok (.iload 4, 2) := dk_21 4 (dk_at dksX4_contextCall_2 18 rfl rfl)
theorem dX4_contextCall_67 : decode cX4_contextCall 67 = .ok (.bipush 100, 2) := dk_16 100 (dk_at dksX4_contextCall_2 20 rfl rfl)
theorem dX4_contextCall_69 : decode cX4_contextCall 69 = .ok (.irem, 1) := dk_112 (dk_at dksX4_contextCall_2 22 rfl rfl)
theorem dX4_contextCall_70 : decode cX4_contextCall 70 = .ok (.ireturn, 1) := dk_172 (dk_at dksX4_contextCall_2 23 rfl rfl)
abbrev cX4_pointsTo : ByteArray := prog_21_method_56_code
def yX4_pointsTo : MethodName := ⟨RX4, "pointsTo", "(I)J"⟩
def dkwX4_pointsTo_1 : List UInt8 := [173]
abbrev dktX4_pointsTo_1 : List UInt8 := dkwX4_pointsTo_1 ++ []
def dkwX4_pointsTo_0 : List UInt8 := [27, 184, 0, 251, 154, 0, 10, 42, 4, 182, 0, 98, 133, 173, 42, 3, 181, 0, 84, 42, 27, 182, 0, 254]
abbrev dktX4_pointsTo_0 : List UInt8 := dkwX4_pointsTo_0 ++ dktX4_pointsTo_1
theorem dksX4_pointsTo_0 : cX4_pointsTo.data.toList.drop 0 = dktX4_pointsTo_0 := by decide +kernel
theorem dksX4_pointsTo_1 : cX4_pointsTo.data.toList.drop 24 = dktX4_pointsTo_1 := dk_seg dksX4_pointsTo_0 24 rfl rfl
theorem dX4_pointsTo_0 : decode cX4_pointsTo 0 = .ok (.iload_n 1, 1) := dk_27 (dk_at dksX4_pointsTo_0 0 rfl rfl)
theorem dX4_pointsTo_1 : decode cX4_pointsTo 1 = .ok (.invokestatic 251, 3) := dk_184 0 251 (dk_at dksX4_pointsTo_0 1 rfl rfl)
theorem dX4_pointsTo_4 : decode cX4_pointsTo 4 = .ok (.ifCond .ne 10, 3) := dk_154 0 10 (dk_at dksX4_pointsTo_0 4 rfl rfl)
theorem dX4_pointsTo_7 : decode cX4_pointsTo 7 = .ok (.aload_n 0, 1) := dk_42 (dk_at dksX4_pointsTo_0 7 rfl rfl)
theorem dX4_pointsTo_8 : decode cX4_pointsTo 8 = .ok (.iconst 1, 1) := dk_4 (dk_at dksX4_pointsTo_0 8 rfl rfl)
theorem dX4_pointsTo_9 : decode cX4_pointsTo 9 = .ok (.invokevirtual 98, 3) := dk_182 0 98 (dk_at dksX4_pointsTo_0 9 rfl rfl)
theorem dX4_pointsTo_12 : decode cX4_pointsTo 12 = .ok (.i2l, 1) := dk_133 (dk_at dksX4_pointsTo_0 12 rfl rfl)
theorem dX4_pointsTo_13 : decode cX4_pointsTo 13 = .ok (.lreturn, 1) := dk_173 (dk_at dksX4_pointsTo_0 13 rfl rfl)
theorem dX4_pointsTo_14 : decode cX4_pointsTo 14 = .ok (.aload_n 0, 1) := dk_42 (dk_at dksX4_pointsTo_0 14 rfl rfl)
theorem dX4_pointsTo_15 : decode cX4_pointsTo 15 = .ok (.iconst 0, 1) := dk_3 (dk_at dksX4_pointsTo_0 15 rfl rfl)
theorem dX4_pointsTo_16 : decode cX4_pointsTo 16 = .ok (.putfield 84, 3) := dk_181 0 84 (dk_at dksX4_pointsTo_0 16 rfl rfl)
theorem dX4_pointsTo_19 : decode cX4_pointsTo 19 = .ok (.aload_n 0, 1) := dk_42 (dk_at dksX4_pointsTo_0 19 rfl rfl)
theorem dX4_pointsTo_20 : decode cX4_pointsTo 20 = .ok (.iload_n 1, 1) := dk_27 (dk_at dksX4_pointsTo_0 20 rfl rfl)
theorem dX4_pointsTo_21 : decode cX4_pointsTo 21 = .ok (.invokevirtual 254, 3) := dk_182 0 254 (dk_at dksX4_pointsTo_0 21 rfl rfl)
theorem dX4_pointsTo_24 : decode cX4_pointsTo 24 = .ok (.lreturn, 1) := dk_173 (dk_at dksX4_pointsTo_1 0 rfl rfl)
abbrev cX4_isVariable : ByteArray := prog_21_method_8_code
def yX4_isVariable : MethodName := ⟨RX4, "isVariable", "(I)Z"⟩
def dkwX4_isVariable_0 : List UInt8 := [26, 155, 0, 13, 26, 16, 20, 162, 0, 7, 4, 167, 0, 4, 3, 172]
abbrev dktX4_isVariable_0 : List UInt8 := dkwX4_isVariable_0 ++ []
theorem dksX4_isVariable_0 : cX4_isVariable.data.toList.drop 0 = dktX4_isVariable_0 := by decide +kernel
theorem dX4_isVariable_0 : decode cX4_isVariable 0 = .ok (.iload_n 0, 1) := dk_26 (dk_at dksX4_isVariable_0 0 rfl rfl)
theorem dX4_isVariable_1 : decode cX4_isVariable 1 = .ok (.ifCond .lt 13, 3) := dk_155 0 13 (dk_at dksX4_isVariable_0 1 rfl rfl)
theorem dX4_isVariable_4 : decode cX4_isVariable 4 = .ok (.iload_n 0, 1) := dk_26 (dk_at dksX4_isVariable_0 4 rfl rfl)
theorem dX4_isVariable_5 : decode cX4_isVariable 5 = .ok (.bipush 20, 2) := dk_16 20 (dk_at dksX4_isVariable_0 5 rfl rfl)
theorem dX4_isVariable_7 : decode cX4_isVariable 7 = .ok (.if_icmp .ge 7, 3) := dk_162 0 7 (dk_at dksX4_isVariable_0 7 rfl rfl)
theorem dX4_isVariable_10 : decode cX4_isVariable 10 = .ok (.iconst 1, 1) := dk_4 (dk_at dksX4_isVariable_0 10 rfl rfl)
theorem dX4_isVariable_11 : decode cX4_isVariable 11 = .ok (.goto 4, 3) := dk_167 0 4 (dk_at dksX4_isVariable_0 11 rfl rfl)
theorem dX4_isVariable_14 : decode cX4_isVariable 14 = .ok (.iconst 0, 1) := dk_3 (dk_at dksX4_isVariable_0 14 rfl rfl)
theorem dX4_isVariable_15 : decode cX4_isVariable 15 = .ok (.ireturn, 1) := dk_172 (dk_at dksX4_isVariable_0 15 rfl rfl)
abbrev cX4_targetsBy : ByteArray := prog_21_method_55_code
def yX4_targetsBy : MethodName := ⟨RX4, "targetsBy", "(I)J"⟩
def dkwX4_targetsBy_3 : List UInt8 := [104, 96, 27, 7, 112, 96, 182, 0, 247, 167, 0, 4, 9, 129, 65, 132, 4, 1, 167, 255, 208, 32, 173]
abbrev dktX4_targetsBy_3 : List UInt8 := dkwX4_targetsBy_3 ++ []
def dkwX4_targetsBy_2 : List UInt8 := [162, 0, 45, 32, 42, 180, 0, 32, 21, 4, 46, 27, 7, 100, 7, 108, 160, 0, 20, 42, 7, 7, 21, 4]
abbrev dktX4_targetsBy_2 : List UInt8 := dkwX4_targetsBy_2 ++ dktX4_targetsBy_3
def dkwX4_targetsBy_1 : List UInt8 := [17, 0, 128, 27, 96, 16, 20, 100, 182, 0, 247, 173, 9, 65, 3, 54, 4, 21, 4, 42, 180, 0, 174]
abbrev dktX4_targetsBy_1 : List UInt8 := dkwX4_targetsBy_1 ++ dktX4_targetsBy_2
def dkwX4_targetsBy_0 : List UInt8 := [42, 182, 0, 235, 27, 7, 162, 0, 9, 42, 27, 182, 0, 247, 173, 27, 16, 20, 161, 0, 16, 42]
abbrev dktX4_targetsBy_0 : List UInt8 := dkwX4_targetsBy_0 ++ dktX4_targetsBy_1
theorem dksX4_targetsBy_0 : cX4_targetsBy.data.toList.drop 0 = dktX4_targetsBy_0 := by decide +kernel
theorem dksX4_targetsBy_1 : cX4_targetsBy.data.toList.drop 22 = dktX4_targetsBy_1 := dk_seg dksX4_targetsBy_0 22 rfl rfl
theorem dksX4_targetsBy_2 : cX4_targetsBy.data.toList.drop 45 = dktX4_targetsBy_2 := dk_seg dksX4_targetsBy_1 23 rfl rfl
theorem dksX4_targetsBy_3 : cX4_targetsBy.data.toList.drop 69 = dktX4_targetsBy_3 := dk_seg dksX4_targetsBy_2 24 rfl rfl
theorem dX4_targetsBy_0 : decode cX4_targetsBy 0 = .ok (.aload_n 0, 1) := dk_42 (dk_at dksX4_targetsBy_0 0 rfl rfl)
theorem dX4_targetsBy_1 : decode cX4_targetsBy 1 = .ok (.invokevirtual 235, 3) := dk_182 0 235 (dk_at dksX4_targetsBy_0 1 rfl rfl)
theorem dX4_targetsBy_4 : decode cX4_targetsBy 4 = .ok (.iload_n 1, 1) := dk_27 (dk_at dksX4_targetsBy_0 4 rfl rfl)
theorem dX4_targetsBy_5 : decode cX4_targetsBy 5 = .ok (.iconst 4, 1) := dk_7 (dk_at dksX4_targetsBy_0 5 rfl rfl)
theorem dX4_targetsBy_6 : decode cX4_targetsBy 6 = .ok (.if_icmp .ge 9, 3) := dk_162 0 9 (dk_at dksX4_targetsBy_0 6 rfl rfl)
theorem dX4_targetsBy_9 : decode cX4_targetsBy 9 = .ok (.aload_n 0, 1) := dk_42 (dk_at dksX4_targetsBy_0 9 rfl rfl)
theorem dX4_targetsBy_10 : decode cX4_targetsBy 10 = .ok (.iload_n 1, 1) := dk_27 (dk_at dksX4_targetsBy_0 10 rfl rfl)
theorem dX4_targetsBy_11 : decode cX4_targetsBy 11 = .ok (.invokevirtual 247, 3) := dk_182 0 247 (dk_at dksX4_targetsBy_0 11 rfl rfl)
theorem dX4_targetsBy_14 : decode cX4_targetsBy 14 = .ok (.lreturn, 1) := dk_173 (dk_at dksX4_targetsBy_0 14 rfl rfl)
theorem dX4_targetsBy_15 : decode cX4_targetsBy 15 = .ok (.iload_n 1, 1) := dk_27 (dk_at dksX4_targetsBy_0 15 rfl rfl)
theorem dX4_targetsBy_16 : decode cX4_targetsBy 16 = .ok (.bipush 20, 2) := dk_16 20 (dk_at dksX4_targetsBy_0 16 rfl rfl)
theorem dX4_targetsBy_18 : decode cX4_targetsBy 18 = .ok (.if_icmp .lt 16, 3) := dk_161 0 16 (dk_at dksX4_targetsBy_0 18 rfl rfl)
theorem dX4_targetsBy_21 : decode cX4_targetsBy 21 = .ok (.aload_n 0, 1) := dk_42 (dk_at dksX4_targetsBy_0 21 rfl rfl)
theorem dX4_targetsBy_22 : decode cX4_targetsBy 22 = .ok (.sipush 128, 3) := dk_17 0 128 (dk_at dksX4_targetsBy_1 0 rfl rfl)
theorem dX4_targetsBy_25 : decode cX4_targetsBy 25 = .ok (.iload_n 1, 1) := dk_27 (dk_at dksX4_targetsBy_1 3 rfl rfl)
theorem dX4_targetsBy_26 : decode cX4_targetsBy 26 = .ok (.iadd, 1) := dk_96 (dk_at dksX4_targetsBy_1 4 rfl rfl)
theorem dX4_targetsBy_27 : decode cX4_targetsBy 27 = .ok (.bipush 20, 2) := dk_16 20 (dk_at dksX4_targetsBy_1 5 rfl rfl)
theorem dX4_targetsBy_29 : decode cX4_targetsBy 29 = .ok (.isub, 1) := dk_100 (dk_at dksX4_targetsBy_1 7 rfl rfl)
theorem dX4_targetsBy_30 : decode cX4_targetsBy 30 = .ok (.invokevirtual 247, 3) := dk_182 0 247 (dk_at dksX4_targetsBy_1 8 rfl rfl)
theorem dX4_targetsBy_33 : decode cX4_targetsBy 33 = .ok (.lreturn, 1) := dk_173 (dk_at dksX4_targetsBy_1 11 rfl rfl)
theorem dX4_targetsBy_34 : decode cX4_targetsBy 34 = .ok (.lconst 0, 1) := dk_9 (dk_at dksX4_targetsBy_1 12 rfl rfl)
theorem dX4_targetsBy_35 : decode cX4_targetsBy 35 = .ok (.lstore_n 2, 1) := dk_65 (dk_at dksX4_targetsBy_1 13 rfl rfl)
theorem dX4_targetsBy_36 : decode cX4_targetsBy 36 = .ok (.iconst 0, 1) := dk_3 (dk_at dksX4_targetsBy_1 14 rfl rfl)
theorem dX4_targetsBy_37 : decode cX4_targetsBy 37 = .ok (.istore 4, 2) := dk_54 4 (dk_at dksX4_targetsBy_1 15 rfl rfl)
theorem dX4_targetsBy_39 : decode cX4_targetsBy 39 = .ok (.iload 4, 2) := dk_21 4 (dk_at dksX4_targetsBy_1 17 rfl rfl)
theorem dX4_targetsBy_41 : decode cX4_targetsBy 41 = .ok (.aload_n 0, 1) := dk_42 (dk_at dksX4_targetsBy_1 19 rfl rfl)
theorem dX4_targetsBy_42 : decode cX4_targetsBy 42 = .ok (.getfield 174, 3) := dk_180 0 174 (dk_at dksX4_targetsBy_1 20 rfl rfl)
theorem dX4_targetsBy_45 : decode cX4_targetsBy 45 = .ok (.if_icmp .ge 45, 3) := dk_162 0 45 (dk_at dksX4_targetsBy_2 0 rfl rfl)
theorem dX4_targetsBy_48 : decode cX4_targetsBy 48 = .ok (.lload_n 2, 1) := dk_32 (dk_at dksX4_targetsBy_2 3 rfl rfl)
theorem dX4_targetsBy_49 : decode cX4_targetsBy 49 = .ok (.aload_n 0, 1) := dk_42 (dk_at dksX4_targetsBy_2 4 rfl rfl)
theorem dX4_targetsBy_50 : decode cX4_targetsBy 50 = .ok (.getfield 32, 3) := dk_180 0 32 (dk_at dksX4_targetsBy_2 5 rfl rfl)
theorem dX4_targetsBy_53 : decode cX4_targetsBy 53 = .ok (.iload 4, 2) := dk_21 4 (dk_at dksX4_targetsBy_2 8 rfl rfl)
theorem dX4_targetsBy_55 : decode cX4_targetsBy 55 = .ok (.iaload, 1) := dk_46 (dk_at dksX4_targetsBy_2 10 rfl rfl)
theorem dX4_targetsBy_56 : decode cX4_targetsBy 56 = .ok (.iload_n 1, 1) := dk_27 (dk_at dksX4_targetsBy_2 11 rfl rfl)
theorem dX4_targetsBy_57 : decode cX4_targetsBy 57 = .ok (.iconst 4, 1) := dk_7 (dk_at dksX4_targetsBy_2 12 rfl rfl)
theorem dX4_targetsBy_58 : decode cX4_targetsBy 58 = .ok (.isub, 1) := dk_100 (dk_at dksX4_targetsBy_2 13 rfl rfl)
theorem dX4_targetsBy_59 : decode cX4_targetsBy 59 = .ok (.iconst 4, 1) := dk_7 (dk_at dksX4_targetsBy_2 14 rfl rfl)
theorem dX4_targetsBy_60 : decode cX4_targetsBy 60 = .ok (.idiv, 1) := dk_108 (dk_at dksX4_targetsBy_2 15 rfl rfl)
theorem dX4_targetsBy_61 : decode cX4_targetsBy 61 = .ok (.if_icmp .ne 20, 3) := dk_160 0 20 (dk_at dksX4_targetsBy_2 16 rfl rfl)
theorem dX4_targetsBy_64 : decode cX4_targetsBy 64 = .ok (.aload_n 0, 1) := dk_42 (dk_at dksX4_targetsBy_2 19 rfl rfl)
theorem dX4_targetsBy_65 : decode cX4_targetsBy 65 = .ok (.iconst 4, 1) := dk_7 (dk_at dksX4_targetsBy_2 20 rfl rfl)
theorem dX4_targetsBy_66 : decode cX4_targetsBy 66 = .ok (.iconst 4, 1) := dk_7 (dk_at dksX4_targetsBy_2 21 rfl rfl)
theorem dX4_targetsBy_67 : decode cX4_targetsBy 67 = .ok (.iload 4, 2) := dk_21 4 (dk_at dksX4_targetsBy_2 22 rfl rfl)
theorem dX4_targetsBy_69 : decode cX4_targetsBy 69 = .ok (.imul, 1) := dk_104 (dk_at dksX4_targetsBy_3 0 rfl rfl)
theorem dX4_targetsBy_70 : decode cX4_targetsBy 70 = .ok (.iadd, 1) := dk_96 (dk_at dksX4_targetsBy_3 1 rfl rfl)
theorem dX4_targetsBy_71 : decode cX4_targetsBy 71 = .ok (.iload_n 1, 1) := dk_27 (dk_at dksX4_targetsBy_3 2 rfl rfl)
theorem dX4_targetsBy_72 : decode cX4_targetsBy 72 = .ok (.iconst 4, 1) := dk_7 (dk_at dksX4_targetsBy_3 3 rfl rfl)
theorem dX4_targetsBy_73 : decode cX4_targetsBy 73 = .ok (.irem, 1) := dk_112 (dk_at dksX4_targetsBy_3 4 rfl rfl)
theorem dX4_targetsBy_74 : decode cX4_targetsBy 74 = .ok (.iadd, 1) := dk_96 (dk_at dksX4_targetsBy_3 5 rfl rfl)
theorem dX4_targetsBy_75 : decode cX4_targetsBy 75 = .ok (.invokevirtual 247, 3) := dk_182 0 247 (dk_at dksX4_targetsBy_3 6 rfl rfl)
theorem dX4_targetsBy_78 : decode cX4_targetsBy 78 = .ok (.goto 4, 3) := dk_167 0 4 (dk_at dksX4_targetsBy_3 9 rfl rfl)
theorem dX4_targetsBy_81 : decode cX4_targetsBy 81 = .ok (.lconst 0, 1) := dk_9 (dk_at dksX4_targetsBy_3 12 rfl rfl)
theorem dX4_targetsBy_82 : decode cX4_targetsBy 82 = .ok (.lor, 1) := dk_129 (dk_at dksX4_targetsBy_3 13 rfl rfl)
theorem dX4_targetsBy_83 : decode cX4_targetsBy 83 = .ok (.lstore_n 2, 1) := dk_65 (dk_at dksX4_targetsBy_3 14 rfl rfl)
theorem dX4_targetsBy_84 : decode cX4_targetsBy 84 = .ok (.iinc 4 1, 3) := dk_132 4 1 (dk_at dksX4_targetsBy_3 15 rfl rfl)
theorem dX4_targetsBy_87 : decode cX4_targetsBy 87 = .ok (.goto (-48), 3) := dk_167 255 208 (dk_at dksX4_targetsBy_3 18 rfl rfl)
theorem dX4_targetsBy_90 : decode cX4_targetsBy 90 = .ok (.lload_n 2, 1) := dk_32 (dk_at dksX4_targetsBy_3 21 rfl rfl)
theorem dX4_targetsBy_91 : decode cX4_targetsBy 91 = .ok (.lreturn, 1) := dk_173 (dk_at dksX4_targetsBy_3 22 rfl rfl)
abbrev cX4_targetsOf : ByteArray := prog_21_method_54_code
def yX4_targetsOf : MethodName := ⟨RX4, "targetsOf", "(I)J"⟩
def dkwX4_targetsOf_2 : List UInt8 := [173]
abbrev dktX4_targetsOf_2 : List UInt8 := dkwX4_targetsOf_2 ++ []
def dkwX4_targetsOf_1 : List UInt8 := [153, 0, 14, 10, 42, 21, 4, 182, 0, 209, 121, 167, 0, 4, 9, 129, 65, 132, 4, 1, 167, 255, 217, 32]
abbrev dktX4_targetsOf_1 : List UInt8 := dkwX4_targetsOf_1 ++ dktX4_targetsOf_2
def dkwX4_targetsOf_0 : List UInt8 := [9, 65, 3, 54, 4, 21, 4, 17, 0, 152, 162, 0, 37, 32, 42, 180, 0, 38, 27, 21, 4, 184, 0, 187]
abbrev dktX4_targetsOf_0 : List UInt8 := dkwX4_targetsOf_0 ++ dktX4_targetsOf_1
theorem dksX4_targetsOf_0 : cX4_targetsOf.data.toList.drop 0 = dktX4_targetsOf_0 := by decide +kernel
theorem dksX4_targetsOf_1 : cX4_targetsOf.data.toList.drop 24 = dktX4_targetsOf_1 := dk_seg dksX4_targetsOf_0 24 rfl rfl
theorem dksX4_targetsOf_2 : cX4_targetsOf.data.toList.drop 48 = dktX4_targetsOf_2 := dk_seg dksX4_targetsOf_1 24 rfl rfl
theorem dX4_targetsOf_0 : decode cX4_targetsOf 0 = .ok (.lconst 0, 1) := dk_9 (dk_at dksX4_targetsOf_0 0 rfl rfl)
theorem dX4_targetsOf_1 : decode cX4_targetsOf 1 = .ok (.lstore_n 2, 1) := dk_65 (dk_at dksX4_targetsOf_0 1 rfl rfl)
theorem dX4_targetsOf_2 : decode cX4_targetsOf 2 = .ok (.iconst 0, 1) := dk_3 (dk_at dksX4_targetsOf_0 2 rfl rfl)
theorem dX4_targetsOf_3 : decode cX4_targetsOf 3 = .ok (.istore 4, 2) := dk_54 4 (dk_at dksX4_targetsOf_0 3 rfl rfl)
theorem dX4_targetsOf_5 : decode cX4_targetsOf 5 = .ok (.iload 4, 2) := dk_21 4 (dk_at dksX4_targetsOf_0 5 rfl rfl)
theorem dX4_targetsOf_7 : decode cX4_targetsOf 7 = .ok (.sipush 152, 3) := dk_17 0 152 (dk_at dksX4_targetsOf_0 7 rfl rfl)
theorem dX4_targetsOf_10 : decode cX4_targetsOf 10 = .ok (.if_icmp .ge 37, 3) := dk_162 0 37 (dk_at dksX4_targetsOf_0 10 rfl rfl)
theorem dX4_targetsOf_13 : decode cX4_targetsOf 13 = .ok (.lload_n 2, 1) := dk_32 (dk_at dksX4_targetsOf_0 13 rfl rfl)
theorem dX4_targetsOf_14 : decode cX4_targetsOf 14 = .ok (.aload_n 0, 1) := dk_42 (dk_at dksX4_targetsOf_0 14 rfl rfl)
theorem dX4_targetsOf_15 : decode cX4_targetsOf 15 = .ok (.getfield 38, 3) := dk_180 0 38 (dk_at dksX4_targetsOf_0 15 rfl rfl)
theorem dX4_targetsOf_18 : decode cX4_targetsOf 18 = .ok (.iload_n 1, 1) := dk_27 (dk_at dksX4_targetsOf_0 18 rfl rfl)
theorem dX4_targetsOf_19 : decode cX4_targetsOf 19 = .ok (.iload 4, 2) := dk_21 4 (dk_at dksX4_targetsOf_0 19 rfl rfl)
theorem dX4_targetsOf_21 : decode cX4_targetsOf 21 = .ok (.invokestatic 187, 3) := dk_184 0 187 (dk_at dksX4_targetsOf_0 21 rfl rfl)
theorem dX4_targetsOf_24 : decode cX4_targetsOf 24 = .ok (.ifCond .eq 14, 3) := dk_153 0 14 (dk_at dksX4_targetsOf_1 0 rfl rfl)
theorem dX4_targetsOf_27 : decode cX4_targetsOf 27 = .ok (.lconst 1, 1) := dk_10 (dk_at dksX4_targetsOf_1 3 rfl rfl)
theorem dX4_targetsOf_28 : decode cX4_targetsOf 28 = .ok (.aload_n 0, 1) := dk_42 (dk_at dksX4_targetsOf_1 4 rfl rfl)
theorem dX4_targetsOf_29 : decode cX4_targetsOf 29 = .ok (.iload 4, 2) := dk_21 4 (dk_at dksX4_targetsOf_1 5 rfl rfl)
theorem dX4_targetsOf_31 : decode cX4_targetsOf 31 = .ok (.invokevirtual 209, 3) := dk_182 0 209 (dk_at dksX4_targetsOf_1 7 rfl rfl)
theorem dX4_targetsOf_34 : decode cX4_targetsOf 34 = .ok (.lshl, 1) := dk_121 (dk_at dksX4_targetsOf_1 10 rfl rfl)
theorem dX4_targetsOf_35 : decode cX4_targetsOf 35 = .ok (.goto 4, 3) := dk_167 0 4 (dk_at dksX4_targetsOf_1 11 rfl rfl)
theorem dX4_targetsOf_38 : decode cX4_targetsOf 38 = .ok (.lconst 0, 1) := dk_9 (dk_at dksX4_targetsOf_1 14 rfl rfl)
theorem dX4_targetsOf_39 : decode cX4_targetsOf 39 = .ok (.lor, 1) := dk_129 (dk_at dksX4_targetsOf_1 15 rfl rfl)
theorem dX4_targetsOf_40 : decode cX4_targetsOf 40 = .ok (.lstore_n 2, 1) := dk_65 (dk_at dksX4_targetsOf_1 16 rfl rfl)
theorem dX4_targetsOf_41 : decode cX4_targetsOf 41 = .ok (.iinc 4 1, 3) := dk_132 4 1 (dk_at dksX4_targetsOf_1 17 rfl rfl)
theorem dX4_targetsOf_44 : decode cX4_targetsOf 44 = .ok (.goto (-39), 3) := dk_167 255 217 (dk_at dksX4_targetsOf_1 20 rfl rfl)
theorem dX4_targetsOf_47 : decode cX4_targetsOf 47 = .ok (.lload_n 2, 1) := dk_32 (dk_at dksX4_targetsOf_1 23 rfl rfl)
theorem dX4_targetsOf_48 : decode cX4_targetsOf 48 = .ok (.lreturn, 1) := dk_173 (dk_at dksX4_targetsOf_2 0 rfl rfl)
abbrev cX4_pointsToIn : ByteArray := prog_21_method_57_code
def yX4_pointsToIn : MethodName := ⟨RX4, "pointsToIn", "(II)J"⟩
def dkwX4_pointsToIn_3 : List UInt8 := [167, 0, 14, 27, 42, 29, 182, 0, 241, 28, 96, 184, 0, 196, 182, 0, 247, 173]
abbrev dktX4_pointsToIn_3 : List UInt8 := dkwX4_pointsToIn_3 ++ []
def dkwX4_pointsToIn_2 : List UInt8 := [154, 0, 10, 42, 4, 182, 0, 98, 133, 173, 42, 3, 181, 0, 84, 42, 27, 7, 162, 0, 7, 27]
abbrev dktX4_pointsToIn_2 : List UInt8 := dkwX4_pointsToIn_2 ++ dktX4_pointsToIn_3
def dkwX4_pointsToIn_1 : List UInt8 := [27, 7, 162, 0, 10, 28, 153, 0, 28, 167, 0, 18, 28, 3, 42, 29, 182, 0, 238, 4, 100, 184, 0, 94]
abbrev dktX4_pointsToIn_1 : List UInt8 := dkwX4_pointsToIn_1 ++ dktX4_pointsToIn_2
def dkwX4_pointsToIn_0 : List UInt8 := [27, 184, 0, 251, 154, 0, 10, 42, 4, 182, 0, 98, 133, 173, 42, 182, 0, 235, 27, 7, 100, 7, 108, 62]
abbrev dktX4_pointsToIn_0 : List UInt8 := dkwX4_pointsToIn_0 ++ dktX4_pointsToIn_1
theorem dksX4_pointsToIn_0 : cX4_pointsToIn.data.toList.drop 0 = dktX4_pointsToIn_0 := by decide +kernel
theorem dksX4_pointsToIn_1 : cX4_pointsToIn.data.toList.drop 24 = dktX4_pointsToIn_1 := dk_seg dksX4_pointsToIn_0 24 rfl rfl
theorem dksX4_pointsToIn_2 : cX4_pointsToIn.data.toList.drop 48 = dktX4_pointsToIn_2 := dk_seg dksX4_pointsToIn_1 24 rfl rfl
theorem dksX4_pointsToIn_3 : cX4_pointsToIn.data.toList.drop 70 = dktX4_pointsToIn_3 := dk_seg dksX4_pointsToIn_2 22 rfl rfl
theorem dX4_pointsToIn_0 : decode cX4_pointsToIn 0 = .ok (.iload_n 1, 1) := dk_27 (dk_at dksX4_pointsToIn_0 0 rfl rfl)
theorem dX4_pointsToIn_1 : decode cX4_pointsToIn 1 = .ok (.invokestatic 251, 3) := dk_184 0 251 (dk_at dksX4_pointsToIn_0 1 rfl rfl)
theorem dX4_pointsToIn_4 : decode cX4_pointsToIn 4 = .ok (.ifCond .ne 10, 3) := dk_154 0 10 (dk_at dksX4_pointsToIn_0 4 rfl rfl)
theorem dX4_pointsToIn_7 : decode cX4_pointsToIn 7 = .ok (.aload_n 0, 1) := dk_42 (dk_at dksX4_pointsToIn_0 7 rfl rfl)
theorem dX4_pointsToIn_8 : decode cX4_pointsToIn 8 = .ok (.iconst 1, 1) := dk_4 (dk_at dksX4_pointsToIn_0 8 rfl rfl)
theorem dX4_pointsToIn_9 : decode cX4_pointsToIn 9 = .ok (.invokevirtual 98, 3) := dk_182 0 98 (dk_at dksX4_pointsToIn_0 9 rfl rfl)
theorem dX4_pointsToIn_12 : decode cX4_pointsToIn 12 = .ok (.i2l, 1) := dk_133 (dk_at dksX4_pointsToIn_0 12 rfl rfl)
theorem dX4_pointsToIn_13 : decode cX4_pointsToIn 13 = .ok (.lreturn, 1) := dk_173 (dk_at dksX4_pointsToIn_0 13 rfl rfl)
theorem dX4_pointsToIn_14 : decode cX4_pointsToIn 14 = .ok (.aload_n 0, 1) := dk_42 (dk_at dksX4_pointsToIn_0 14 rfl rfl)
theorem dX4_pointsToIn_15 : decode cX4_pointsToIn 15 = .ok (.invokevirtual 235, 3) := dk_182 0 235 (dk_at dksX4_pointsToIn_0 15 rfl rfl)
theorem dX4_pointsToIn_18 : decode cX4_pointsToIn 18 = .ok (.iload_n 1, 1) := dk_27 (dk_at dksX4_pointsToIn_0 18 rfl rfl)
theorem dX4_pointsToIn_19 : decode cX4_pointsToIn 19 = .ok (.iconst 4, 1) := dk_7 (dk_at dksX4_pointsToIn_0 19 rfl rfl)
theorem dX4_pointsToIn_20 : decode cX4_pointsToIn 20 = .ok (.isub, 1) := dk_100 (dk_at dksX4_pointsToIn_0 20 rfl rfl)
theorem dX4_pointsToIn_21 : decode cX4_pointsToIn 21 = .ok (.iconst 4, 1) := dk_7 (dk_at dksX4_pointsToIn_0 21 rfl rfl)
theorem dX4_pointsToIn_22 : decode cX4_pointsToIn 22 = .ok (.idiv, 1) := dk_108 (dk_at dksX4_pointsToIn_0 22 rfl rfl)
theorem dX4_pointsToIn_23 : decode cX4_pointsToIn 23 = .ok (.istore_n 3, 1) := dk_62 (dk_at dksX4_pointsToIn_0 23 rfl rfl)
theorem dX4_pointsToIn_24 : decode cX4_pointsToIn 24 = .ok (.iload_n 1, 1) := dk_27 (dk_at dksX4_pointsToIn_1 0 rfl rfl)
theorem dX4_pointsToIn_25 : decode cX4_pointsToIn 25 = .ok (.iconst 4, 1) := dk_7 (dk_at dksX4_pointsToIn_1 1 rfl rfl)
theorem dX4_pointsToIn_26 : decode cX4_pointsToIn 26 = .ok (.if_icmp .ge 10, 3) := dk_162 0 10 (dk_at dksX4_pointsToIn_1 2 rfl rfl)
theorem dX4_pointsToIn_29 : decode cX4_pointsToIn 29 = .ok (.iload_n 2, 1) := dk_28 (dk_at dksX4_pointsToIn_1 5 rfl rfl)
theorem dX4_pointsToIn_30 : decode cX4_pointsToIn 30 = .ok (.ifCond .eq 28, 3) := dk_153 0 28 (dk_at dksX4_pointsToIn_1 6 rfl rfl)
theorem dX4_pointsToIn_33 : decode cX4_pointsToIn 33 = .ok (.goto 18, 3) := dk_167 0 18 (dk_at dksX4_pointsToIn_1 9 rfl rfl)
theorem dX4_pointsToIn_36 : decode cX4_pointsToIn 36 = .ok (.iload_n 2, 1) := dk_28 (dk_at dksX4_pointsToIn_1 12 rfl rfl)
theorem dX4_pointsToIn_37 : decode cX4_pointsToIn 37 = .ok (.iconst 0, 1) := dk_3 (dk_at dksX4_pointsToIn_1 13 rfl rfl)
theorem dX4_pointsToIn_38 : decode cX4_pointsToIn 38 = .ok (.aload_n 0, 1) := dk_42 (dk_at dksX4_pointsToIn_1 14 rfl rfl)
theorem dX4_pointsToIn_39 : decode cX4_pointsToIn 39 = .ok (.iload_n 3, 1) := dk_29 (dk_at dksX4_pointsToIn_1 15 rfl rfl)
theorem dX4_pointsToIn_40 : decode cX4_pointsToIn 40 = .ok (.invokevirtual 238, 3) := dk_182 0 238 (dk_at dksX4_pointsToIn_1 16 rfl rfl)
theorem dX4_pointsToIn_43 : decode cX4_pointsToIn 43 = .ok (.iconst 1, 1) := dk_4 (dk_at dksX4_pointsToIn_1 19 rfl rfl)
theorem dX4_pointsToIn_44 : decode cX4_pointsToIn 44 = .ok (.isub, 1) := dk_100 (dk_at dksX4_pointsToIn_1 20 rfl rfl)
theorem dX4_pointsToIn_45 : decode cX4_pointsToIn 45 = .ok (.invokestatic 94, 3) := dk_184 0 94 (dk_at dksX4_pointsToIn_1 21 rfl rfl)
theorem dX4_pointsToIn_48 : decode cX4_pointsToIn 48 = .ok (.ifCond .ne 10, 3) := dk_154 0 10 (dk_at dksX4_pointsToIn_2 0 rfl rfl)
theorem dX4_pointsToIn_51 : decode cX4_pointsToIn 51 = .ok (.aload_n 0, 1) := dk_42 (dk_at dksX4_pointsToIn_2 3 rfl rfl)
theorem dX4_pointsToIn_52 : decode cX4_pointsToIn 52 = .ok (.iconst 1, 1) := dk_4 (dk_at dksX4_pointsToIn_2 4 rfl rfl)
theorem dX4_pointsToIn_53 : decode cX4_pointsToIn 53 = .ok (.invokevirtual 98, 3) := dk_182 0 98 (dk_at dksX4_pointsToIn_2 5 rfl rfl)
theorem dX4_pointsToIn_56 : decode cX4_pointsToIn 56 = .ok (.i2l, 1) := dk_133 (dk_at dksX4_pointsToIn_2 8 rfl rfl)
theorem dX4_pointsToIn_57 : decode cX4_pointsToIn 57 = .ok (.lreturn, 1) := dk_173 (dk_at dksX4_pointsToIn_2 9 rfl rfl)
theorem dX4_pointsToIn_58 : decode cX4_pointsToIn 58 = .ok (.aload_n 0, 1) := dk_42 (dk_at dksX4_pointsToIn_2 10 rfl rfl)
theorem dX4_pointsToIn_59 : decode cX4_pointsToIn 59 = .ok (.iconst 0, 1) := dk_3 (dk_at dksX4_pointsToIn_2 11 rfl rfl)
theorem dX4_pointsToIn_60 : decode cX4_pointsToIn 60 = .ok (.putfield 84, 3) := dk_181 0 84 (dk_at dksX4_pointsToIn_2 12 rfl rfl)
theorem dX4_pointsToIn_63 : decode cX4_pointsToIn 63 = .ok (.aload_n 0, 1) := dk_42 (dk_at dksX4_pointsToIn_2 15 rfl rfl)
theorem dX4_pointsToIn_64 : decode cX4_pointsToIn 64 = .ok (.iload_n 1, 1) := dk_27 (dk_at dksX4_pointsToIn_2 16 rfl rfl)
theorem dX4_pointsToIn_65 : decode cX4_pointsToIn 65 = .ok (.iconst 4, 1) := dk_7 (dk_at dksX4_pointsToIn_2 17 rfl rfl)
theorem dX4_pointsToIn_66 : decode cX4_pointsToIn 66 = .ok (.if_icmp .ge 7, 3) := dk_162 0 7 (dk_at dksX4_pointsToIn_2 18 rfl rfl)
theorem dX4_pointsToIn_69 : decode cX4_pointsToIn 69 = .ok (.iload_n 1, 1) := dk_27 (dk_at dksX4_pointsToIn_2 21 rfl rfl)
theorem dX4_pointsToIn_70 : decode cX4_pointsToIn 70 = .ok (.goto 14, 3) := dk_167 0 14 (dk_at dksX4_pointsToIn_3 0 rfl rfl)
theorem dX4_pointsToIn_73 : decode cX4_pointsToIn 73 = .ok (.iload_n 1, 1) := dk_27 (dk_at dksX4_pointsToIn_3 3 rfl rfl)
theorem dX4_pointsToIn_74 : decode cX4_pointsToIn 74 = .ok (.aload_n 0, 1) := dk_42 (dk_at dksX4_pointsToIn_3 4 rfl rfl)
theorem dX4_pointsToIn_75 : decode cX4_pointsToIn 75 = .ok (.iload_n 3, 1) := dk_29 (dk_at dksX4_pointsToIn_3 5 rfl rfl)
theorem dX4_pointsToIn_76 : decode cX4_pointsToIn 76 = .ok (.invokevirtual 241, 3) := dk_182 0 241 (dk_at dksX4_pointsToIn_3 6 rfl rfl)
theorem dX4_pointsToIn_79 : decode cX4_pointsToIn 79 = .ok (.iload_n 2, 1) := dk_28 (dk_at dksX4_pointsToIn_3 9 rfl rfl)
theorem dX4_pointsToIn_80 : decode cX4_pointsToIn 80 = .ok (.iadd, 1) := dk_96 (dk_at dksX4_pointsToIn_3 10 rfl rfl)
theorem dX4_pointsToIn_81 : decode cX4_pointsToIn 81 = .ok (.invokestatic 196, 3) := dk_184 0 196 (dk_at dksX4_pointsToIn_3 11 rfl rfl)
theorem dX4_pointsToIn_84 : decode cX4_pointsToIn 84 = .ok (.invokevirtual 247, 3) := dk_182 0 247 (dk_at dksX4_pointsToIn_3 14 rfl rfl)
theorem dX4_pointsToIn_87 : decode cX4_pointsToIn 87 = .ok (.lreturn, 1) := dk_173 (dk_at dksX4_pointsToIn_3 17 rfl rfl)
abbrev cX4_fieldPointsTo : ByteArray := prog_21_method_59_code
def yX4_fieldPointsTo : MethodName := ⟨RX4, "fieldPointsTo", "(II)J"⟩
def dkwX4_fieldPointsTo_1 : List UInt8 := [6, 27, 104, 96, 28, 96, 182, 0, 254, 173]
abbrev dktX4_fieldPointsTo_1 : List UInt8 := dkwX4_fieldPointsTo_1 ++ []
def dkwX4_fieldPointsTo_0 : List UInt8 := [42, 27, 28, 182, 1, 1, 154, 0, 10, 42, 4, 182, 0, 98, 133, 173, 42, 3, 181, 0, 84, 42, 16, 20]
abbrev dktX4_fieldPointsTo_0 : List UInt8 := dkwX4_fieldPointsTo_0 ++ dktX4_fieldPointsTo_1
theorem dksX4_fieldPointsTo_0 : cX4_fieldPointsTo.data.toList.drop 0 = dktX4_fieldPointsTo_0 := by decide +kernel
theorem dksX4_fieldPointsTo_1 : cX4_fieldPointsTo.data.toList.drop 24 = dktX4_fieldPointsTo_1 := dk_seg dksX4_fieldPointsTo_0 24 rfl rfl
theorem dX4_fieldPointsTo_0 : decode cX4_fieldPointsTo 0 = .ok (.aload_n 0, 1) := dk_42 (dk_at dksX4_fieldPointsTo_0 0 rfl rfl)
theorem dX4_fieldPointsTo_1 : decode cX4_fieldPointsTo 1 = .ok (.iload_n 1, 1) := dk_27 (dk_at dksX4_fieldPointsTo_0 1 rfl rfl)
theorem dX4_fieldPointsTo_2 : decode cX4_fieldPointsTo 2 = .ok (.iload_n 2, 1) := dk_28 (dk_at dksX4_fieldPointsTo_0 2 rfl rfl)
theorem dX4_fieldPointsTo_3 : decode cX4_fieldPointsTo 3 = .ok (.invokevirtual 257, 3) := dk_182 1 1 (dk_at dksX4_fieldPointsTo_0 3 rfl rfl)
theorem dX4_fieldPointsTo_6 : decode cX4_fieldPointsTo 6 = .ok (.ifCond .ne 10, 3) := dk_154 0 10 (dk_at dksX4_fieldPointsTo_0 6 rfl rfl)
theorem dX4_fieldPointsTo_9 : decode cX4_fieldPointsTo 9 = .ok (.aload_n 0, 1) := dk_42 (dk_at dksX4_fieldPointsTo_0 9 rfl rfl)
theorem dX4_fieldPointsTo_10 : decode cX4_fieldPointsTo 10 = .ok (.iconst 1, 1) := dk_4 (dk_at dksX4_fieldPointsTo_0 10 rfl rfl)
theorem dX4_fieldPointsTo_11 : decode cX4_fieldPointsTo 11 = .ok (.invokevirtual 98, 3) := dk_182 0 98 (dk_at dksX4_fieldPointsTo_0 11 rfl rfl)
theorem dX4_fieldPointsTo_14 : decode cX4_fieldPointsTo 14 = .ok (.i2l, 1) := dk_133 (dk_at dksX4_fieldPointsTo_0 14 rfl rfl)
theorem dX4_fieldPointsTo_15 : decode cX4_fieldPointsTo 15 = .ok (.lreturn, 1) := dk_173 (dk_at dksX4_fieldPointsTo_0 15 rfl rfl)
theorem dX4_fieldPointsTo_16 : decode cX4_fieldPointsTo 16 = .ok (.aload_n 0, 1) := dk_42 (dk_at dksX4_fieldPointsTo_0 16 rfl rfl)
theorem dX4_fieldPointsTo_17 : decode cX4_fieldPointsTo 17 = .ok (.iconst 0, 1) := dk_3 (dk_at dksX4_fieldPointsTo_0 17 rfl rfl)
theorem dX4_fieldPointsTo_18 : decode cX4_fieldPointsTo 18 = .ok (.putfield 84, 3) := dk_181 0 84 (dk_at dksX4_fieldPointsTo_0 18 rfl rfl)
theorem dX4_fieldPointsTo_21 : decode cX4_fieldPointsTo 21 = .ok (.aload_n 0, 1) := dk_42 (dk_at dksX4_fieldPointsTo_0 21 rfl rfl)
theorem dX4_fieldPointsTo_22 : decode cX4_fieldPointsTo 22 = .ok (.bipush 20, 2) := dk_16 20 (dk_at dksX4_fieldPointsTo_0 22 rfl rfl)
theorem dX4_fieldPointsTo_24 : decode cX4_fieldPointsTo 24 = .ok (.iconst 3, 1) := dk_6 (dk_at dksX4_fieldPointsTo_1 0 rfl rfl)
theorem dX4_fieldPointsTo_25 : decode cX4_fieldPointsTo 25 = .ok (.iload_n 1, 1) := dk_27 (dk_at dksX4_fieldPointsTo_1 1 rfl rfl)
theorem dX4_fieldPointsTo_26 : decode cX4_fieldPointsTo 26 = .ok (.imul, 1) := dk_104 (dk_at dksX4_fieldPointsTo_1 2 rfl rfl)
theorem dX4_fieldPointsTo_27 : decode cX4_fieldPointsTo 27 = .ok (.iadd, 1) := dk_96 (dk_at dksX4_fieldPointsTo_1 3 rfl rfl)
theorem dX4_fieldPointsTo_28 : decode cX4_fieldPointsTo 28 = .ok (.iload_n 2, 1) := dk_28 (dk_at dksX4_fieldPointsTo_1 4 rfl rfl)
theorem dX4_fieldPointsTo_29 : decode cX4_fieldPointsTo 29 = .ok (.iadd, 1) := dk_96 (dk_at dksX4_fieldPointsTo_1 5 rfl rfl)
theorem dX4_fieldPointsTo_30 : decode cX4_fieldPointsTo 30 = .ok (.invokevirtual 254, 3) := dk_182 0 254 (dk_at dksX4_fieldPointsTo_1 6 rfl rfl)
theorem dX4_fieldPointsTo_33 : decode cX4_fieldPointsTo 33 = .ok (.lreturn, 1) := dk_173 (dk_at dksX4_fieldPointsTo_1 9 rfl rfl)
abbrev cX4_isField : ByteArray := prog_21_method_58_code
def yX4_isField : MethodName := ⟨RX4, "isField", "(II)Z"⟩
def dkwX4_isField_1 : List UInt8 := [167, 0, 4, 3, 172]
abbrev dktX4_isField_1 : List UInt8 := dkwX4_isField_1 ++ []
def dkwX4_isField_0 : List UInt8 := [27, 3, 42, 182, 0, 168, 4, 100, 184, 0, 94, 153, 0, 16, 28, 3, 5, 184, 0, 94, 153, 0, 7, 4]
abbrev dktX4_isField_0 : List UInt8 := dkwX4_isField_0 ++ dktX4_isField_1
theorem dksX4_isField_0 : cX4_isField.data.toList.drop 0 = dktX4_isField_0 := by decide +kernel
theorem dksX4_isField_1 : cX4_isField.data.toList.drop 24 = dktX4_isField_1 := dk_seg dksX4_isField_0 24 rfl rfl
theorem dX4_isField_0 : decode cX4_isField 0 = .ok (.iload_n 1, 1) := dk_27 (dk_at dksX4_isField_0 0 rfl rfl)
theorem dX4_isField_1 : decode cX4_isField 1 = .ok (.iconst 0, 1) := dk_3 (dk_at dksX4_isField_0 1 rfl rfl)
theorem dX4_isField_2 : decode cX4_isField 2 = .ok (.aload_n 0, 1) := dk_42 (dk_at dksX4_isField_0 2 rfl rfl)
theorem dX4_isField_3 : decode cX4_isField 3 = .ok (.invokevirtual 168, 3) := dk_182 0 168 (dk_at dksX4_isField_0 3 rfl rfl)
theorem dX4_isField_6 : decode cX4_isField 6 = .ok (.iconst 1, 1) := dk_4 (dk_at dksX4_isField_0 6 rfl rfl)
theorem dX4_isField_7 : decode cX4_isField 7 = .ok (.isub, 1) := dk_100 (dk_at dksX4_isField_0 7 rfl rfl)
theorem dX4_isField_8 : decode cX4_isField 8 = .ok (.invokestatic 94, 3) := dk_184 0 94 (dk_at dksX4_isField_0 8 rfl rfl)
theorem dX4_isField_11 : decode cX4_isField 11 = .ok (.ifCond .eq 16, 3) := dk_153 0 16 (dk_at dksX4_isField_0 11 rfl rfl)
theorem dX4_isField_14 : decode cX4_isField 14 = .ok (.iload_n 2, 1) := dk_28 (dk_at dksX4_isField_0 14 rfl rfl)
theorem dX4_isField_15 : decode cX4_isField 15 = .ok (.iconst 0, 1) := dk_3 (dk_at dksX4_isField_0 15 rfl rfl)
theorem dX4_isField_16 : decode cX4_isField 16 = .ok (.iconst 2, 1) := dk_5 (dk_at dksX4_isField_0 16 rfl rfl)
theorem dX4_isField_17 : decode cX4_isField 17 = .ok (.invokestatic 94, 3) := dk_184 0 94 (dk_at dksX4_isField_0 17 rfl rfl)
theorem dX4_isField_20 : decode cX4_isField 20 = .ok (.ifCond .eq 7, 3) := dk_153 0 7 (dk_at dksX4_isField_0 20 rfl rfl)
theorem dX4_isField_23 : decode cX4_isField 23 = .ok (.iconst 1, 1) := dk_4 (dk_at dksX4_isField_0 23 rfl rfl)
theorem dX4_isField_24 : decode cX4_isField 24 = .ok (.goto 4, 3) := dk_167 0 4 (dk_at dksX4_isField_1 0 rfl rfl)
theorem dX4_isField_27 : decode cX4_isField 27 = .ok (.iconst 0, 1) := dk_3 (dk_at dksX4_isField_1 3 rfl rfl)
theorem dX4_isField_28 : decode cX4_isField 28 = .ok (.ireturn, 1) := dk_172 (dk_at dksX4_isField_1 4 rfl rfl)
abbrev cX4_factCount : ByteArray := prog_21_method_60_code
def yX4_factCount : MethodName := ⟨RX4, "factCount", "()I"⟩
def dkwX4_factCount_1 : List UInt8 := [180, 0, 38, 28, 47, 184, 1, 4, 96, 60, 132, 2, 1, 167, 255, 232, 27, 172]
abbrev dktX4_factCount_1 : List UInt8 := dkwX4_factCount_1 ++ []
def dkwX4_factCount_0 : List UInt8 := [42, 3, 181, 0, 84, 42, 182, 0, 235, 3, 60, 3, 61, 28, 42, 180, 0, 38, 190, 162, 0, 21, 27, 42]
abbrev dktX4_factCount_0 : List UInt8 := dkwX4_factCount_0 ++ dktX4_factCount_1
theorem dksX4_factCount_0 : cX4_factCount.data.toList.drop 0 = dktX4_factCount_0 := by decide +kernel
theorem dksX4_factCount_1 : cX4_factCount.data.toList.drop 24 = dktX4_factCount_1 := dk_seg dksX4_factCount_0 24 rfl rfl
theorem dX4_factCount_0 : decode cX4_factCount 0 = .ok (.aload_n 0, 1) := dk_42 (dk_at dksX4_factCount_0 0 rfl rfl)
theorem dX4_factCount_1 : decode cX4_factCount 1 = .ok (.iconst 0, 1) := dk_3 (dk_at dksX4_factCount_0 1 rfl rfl)
theorem dX4_factCount_2 : decode cX4_factCount 2 = .ok (.putfield 84, 3) := dk_181 0 84 (dk_at dksX4_factCount_0 2 rfl rfl)
theorem dX4_factCount_5 : decode cX4_factCount 5 = .ok (.aload_n 0, 1) := dk_42 (dk_at dksX4_factCount_0 5 rfl rfl)
theorem dX4_factCount_6 : decode cX4_factCount 6 = .ok (.invokevirtual 235, 3) := dk_182 0 235 (dk_at dksX4_factCount_0 6 rfl rfl)
theorem dX4_factCount_9 : decode cX4_factCount 9 = .ok (.iconst 0, 1) := dk_3 (dk_at dksX4_factCount_0 9 rfl rfl)
theorem dX4_factCount_10 : decode cX4_factCount 10 = .ok (.istore_n 1, 1) := dk_60 (dk_at dksX4_factCount_0 10 rfl rfl)
theorem dX4_factCount_11 : decode cX4_factCount 11 = .ok (.iconst 0, 1) := dk_3 (dk_at dksX4_factCount_0 11 rfl rfl)
theorem dX4_factCount_12 : decode cX4_factCount 12 = .ok (.istore_n 2, 1) := dk_61 (dk_at dksX4_factCount_0 12 rfl rfl)
theorem dX4_factCount_13 : decode cX4_factCount 13 = .ok (.iload_n 2, 1) := dk_28 (dk_at dksX4_factCount_0 13 rfl rfl)
theorem dX4_factCount_14 : decode cX4_factCount 14 = .ok (.aload_n 0, 1) := dk_42 (dk_at dksX4_factCount_0 14 rfl rfl)
theorem dX4_factCount_15 : decode cX4_factCount 15 = .ok (.getfield 38, 3) := dk_180 0 38 (dk_at dksX4_factCount_0 15 rfl rfl)
theorem dX4_factCount_18 : decode cX4_factCount 18 = .ok (.arraylength, 1) := dk_190 (dk_at dksX4_factCount_0 18 rfl rfl)
theorem dX4_factCount_19 : decode cX4_factCount 19 = .ok (.if_icmp .ge 21, 3) := dk_162 0 21 (dk_at dksX4_factCount_0 19 rfl rfl)
theorem dX4_factCount_22 : decode cX4_factCount 22 = .ok (.iload_n 1, 1) := dk_27 (dk_at dksX4_factCount_0 22 rfl rfl)
theorem dX4_factCount_23 : decode cX4_factCount 23 = .ok (.aload_n 0, 1) := dk_42 (dk_at dksX4_factCount_0 23 rfl rfl)
theorem dX4_factCount_24 : decode cX4_factCount 24 = .ok (.getfield 38, 3) := dk_180 0 38 (dk_at dksX4_factCount_1 0 rfl rfl)
theorem dX4_factCount_27 : decode cX4_factCount 27 = .ok (.iload_n 2, 1) := dk_28 (dk_at dksX4_factCount_1 3 rfl rfl)
theorem dX4_factCount_28 : decode cX4_factCount 28 = .ok (.laload, 1) := dk_47 (dk_at dksX4_factCount_1 4 rfl rfl)
theorem dX4_factCount_29 : decode cX4_factCount 29 = .ok (.invokestatic 260, 3) := dk_184 1 4 (dk_at dksX4_factCount_1 5 rfl rfl)
theorem dX4_factCount_32 : decode cX4_factCount 32 = .ok (.iadd, 1) := dk_96 (dk_at dksX4_factCount_1 8 rfl rfl)
theorem dX4_factCount_33 : decode cX4_factCount 33 = .ok (.istore_n 1, 1) := dk_60 (dk_at dksX4_factCount_1 9 rfl rfl)
theorem dX4_factCount_34 : decode cX4_factCount 34 = .ok (.iinc 2 1, 3) := dk_132 2 1 (dk_at dksX4_factCount_1 10 rfl rfl)
theorem dX4_factCount_37 : decode cX4_factCount 37 = .ok (.goto (-24), 3) := dk_167 255 232 (dk_at dksX4_factCount_1 13 rfl rfl)
theorem dX4_factCount_40 : decode cX4_factCount 40 = .ok (.iload_n 1, 1) := dk_27 (dk_at dksX4_factCount_1 16 rfl rfl)
theorem dX4_factCount_41 : decode cX4_factCount 41 = .ok (.ireturn, 1) := dk_172 (dk_at dksX4_factCount_1 17 rfl rfl)
abbrev cX4_bits : ByteArray := prog_21_method_6_code
def yX4_bits : MethodName := ⟨RX4, "bits", "(J)I"⟩
def dkwX4_bits_1 : List UInt8 := [167, 255, 238, 28, 172]
abbrev dktX4_bits_1 : List UInt8 := dkwX4_bits_1 ++ []
def dkwX4_bits_0 : List UInt8 := [3, 61, 3, 62, 29, 16, 64, 162, 0, 18, 28, 30, 29, 123, 10, 127, 136, 96, 61, 132, 3, 1]
abbrev dktX4_bits_0 : List UInt8 := dkwX4_bits_0 ++ dktX4_bits_1
theorem dksX4_bits_0 : cX4_bits.data.toList.drop 0 = dktX4_bits_0 := by decide +kernel
theorem dksX4_bits_1 : cX4_bits.data.toList.drop 22 = dktX4_bits_1 := dk_seg dksX4_bits_0 22 rfl rfl
theorem dX4_bits_0 : decode cX4_bits 0 = .ok (.iconst 0, 1) := dk_3 (dk_at dksX4_bits_0 0 rfl rfl)
theorem dX4_bits_1 : decode cX4_bits 1 = .ok (.istore_n 2, 1) := dk_61 (dk_at dksX4_bits_0 1 rfl rfl)
theorem dX4_bits_2 : decode cX4_bits 2 = .ok (.iconst 0, 1) := dk_3 (dk_at dksX4_bits_0 2 rfl rfl)
theorem dX4_bits_3 : decode cX4_bits 3 = .ok (.istore_n 3, 1) := dk_62 (dk_at dksX4_bits_0 3 rfl rfl)
theorem dX4_bits_4 : decode cX4_bits 4 = .ok (.iload_n 3, 1) := dk_29 (dk_at dksX4_bits_0 4 rfl rfl)
theorem dX4_bits_5 : decode cX4_bits 5 = .ok (.bipush 64, 2) := dk_16 64 (dk_at dksX4_bits_0 5 rfl rfl)
theorem dX4_bits_7 : decode cX4_bits 7 = .ok (.if_icmp .ge 18, 3) := dk_162 0 18 (dk_at dksX4_bits_0 7 rfl rfl)
theorem dX4_bits_10 : decode cX4_bits 10 = .ok (.iload_n 2, 1) := dk_28 (dk_at dksX4_bits_0 10 rfl rfl)
theorem dX4_bits_11 : decode cX4_bits 11 = .ok (.lload_n 0, 1) := dk_30 (dk_at dksX4_bits_0 11 rfl rfl)
theorem dX4_bits_12 : decode cX4_bits 12 = .ok (.iload_n 3, 1) := dk_29 (dk_at dksX4_bits_0 12 rfl rfl)
theorem dX4_bits_13 : decode cX4_bits 13 = .ok (.lshr, 1) := dk_123 (dk_at dksX4_bits_0 13 rfl rfl)
theorem dX4_bits_14 : decode cX4_bits 14 = .ok (.lconst 1, 1) := dk_10 (dk_at dksX4_bits_0 14 rfl rfl)
theorem dX4_bits_15 : decode cX4_bits 15 = .ok (.land, 1) := dk_127 (dk_at dksX4_bits_0 15 rfl rfl)
theorem dX4_bits_16 : decode cX4_bits 16 = .ok (.l2i, 1) := dk_136 (dk_at dksX4_bits_0 16 rfl rfl)
theorem dX4_bits_17 : decode cX4_bits 17 = .ok (.iadd, 1) := dk_96 (dk_at dksX4_bits_0 17 rfl rfl)
theorem dX4_bits_18 : decode cX4_bits 18 = .ok (.istore_n 2, 1) := dk_61 (dk_at dksX4_bits_0 18 rfl rfl)
theorem dX4_bits_19 : decode cX4_bits 19 = .ok (.iinc 3 1, 3) := dk_132 3 1 (dk_at dksX4_bits_0 19 rfl rfl)
theorem dX4_bits_22 : decode cX4_bits 22 = .ok (.goto (-18), 3) := dk_167 255 238 (dk_at dksX4_bits_1 0 rfl rfl)
theorem dX4_bits_25 : decode cX4_bits 25 = .ok (.iload_n 2, 1) := dk_28 (dk_at dksX4_bits_1 3 rfl rfl)
theorem dX4_bits_26 : decode cX4_bits 26 = .ok (.ireturn, 1) := dk_172 (dk_at dksX4_bits_1 4 rfl rfl)
abbrev cX4_mayAlias : ByteArray := prog_21_method_61_code
def yX4_mayAlias : MethodName := ⟨RX4, "mayAlias", "(II)Z"⟩
def dkwX4_mayAlias_2 : List UInt8 := [172]
abbrev dktX4_mayAlias_2 : List UInt8 := dkwX4_mayAlias_2 ++ []
def dkwX4_mayAlias_1 : List UInt8 := [181, 0, 84, 42, 27, 182, 0, 254, 42, 28, 182, 0, 254, 127, 9, 148, 153, 0, 7, 4, 167, 0, 4, 3]
abbrev dktX4_mayAlias_1 : List UInt8 := dkwX4_mayAlias_1 ++ dktX4_mayAlias_2
def dkwX4_mayAlias_0 : List UInt8 := [27, 184, 0, 251, 153, 0, 10, 28, 184, 0, 251, 154, 0, 9, 42, 4, 182, 1, 8, 172, 42, 3]
abbrev dktX4_mayAlias_0 : List UInt8 := dkwX4_mayAlias_0 ++ dktX4_mayAlias_1
theorem dksX4_mayAlias_0 : cX4_mayAlias.data.toList.drop 0 = dktX4_mayAlias_0 := by decide +kernel
theorem dksX4_mayAlias_1 : cX4_mayAlias.data.toList.drop 22 = dktX4_mayAlias_1 := dk_seg dksX4_mayAlias_0 22 rfl rfl
theorem dksX4_mayAlias_2 : cX4_mayAlias.data.toList.drop 46 = dktX4_mayAlias_2 := dk_seg dksX4_mayAlias_1 24 rfl rfl
theorem dX4_mayAlias_0 : decode cX4_mayAlias 0 = .ok (.iload_n 1, 1) := dk_27 (dk_at dksX4_mayAlias_0 0 rfl rfl)
theorem dX4_mayAlias_1 : decode cX4_mayAlias 1 = .ok (.invokestatic 251, 3) := dk_184 0 251 (dk_at dksX4_mayAlias_0 1 rfl rfl)
theorem dX4_mayAlias_4 : decode cX4_mayAlias 4 = .ok (.ifCond .eq 10, 3) := dk_153 0 10 (dk_at dksX4_mayAlias_0 4 rfl rfl)
theorem dX4_mayAlias_7 : decode cX4_mayAlias 7 = .ok (.iload_n 2, 1) := dk_28 (dk_at dksX4_mayAlias_0 7 rfl rfl)
theorem dX4_mayAlias_8 : decode cX4_mayAlias 8 = .ok (.invokestatic 251, 3) := dk_184 0 251 (dk_at dksX4_mayAlias_0 8 rfl rfl)
theorem dX4_mayAlias_11 : decode cX4_mayAlias 11 = .ok (.ifCond .ne 9, 3) := dk_154 0 9 (dk_at dksX4_mayAlias_0 11 rfl rfl)
theorem dX4_mayAlias_14 : decode cX4_mayAlias 14 = .ok (.aload_n 0, 1) := dk_42 (dk_at dksX4_mayAlias_0 14 rfl rfl)
theorem dX4_mayAlias_15 : decode cX4_mayAlias 15 = .ok (.iconst 1, 1) := dk_4 (dk_at dksX4_mayAlias_0 15 rfl rfl)
theorem dX4_mayAlias_16 : decode cX4_mayAlias 16 = .ok (.invokevirtual 264, 3) := dk_182 1 8 (dk_at dksX4_mayAlias_0 16 rfl rfl)
theorem dX4_mayAlias_19 : decode cX4_mayAlias 19 = .ok (.ireturn, 1) := dk_172 (dk_at dksX4_mayAlias_0 19 rfl rfl)
theorem dX4_mayAlias_20 : decode cX4_mayAlias 20 = .ok (.aload_n 0, 1) := dk_42 (dk_at dksX4_mayAlias_0 20 rfl rfl)
theorem dX4_mayAlias_21 : decode cX4_mayAlias 21 = .ok (.iconst 0, 1) := dk_3 (dk_at dksX4_mayAlias_0 21 rfl rfl)
theorem dX4_mayAlias_22 : decode cX4_mayAlias 22 = .ok (.putfield 84, 3) := dk_181 0 84 (dk_at dksX4_mayAlias_1 0 rfl rfl)
theorem dX4_mayAlias_25 : decode cX4_mayAlias 25 = .ok (.aload_n 0, 1) := dk_42 (dk_at dksX4_mayAlias_1 3 rfl rfl)
theorem dX4_mayAlias_26 : decode cX4_mayAlias 26 = .ok (.iload_n 1, 1) := dk_27 (dk_at dksX4_mayAlias_1 4 rfl rfl)
theorem dX4_mayAlias_27 : decode cX4_mayAlias 27 = .ok (.invokevirtual 254, 3) := dk_182 0 254 (dk_at dksX4_mayAlias_1 5 rfl rfl)
theorem dX4_mayAlias_30 : decode cX4_mayAlias 30 = .ok (.aload_n 0, 1) := dk_42 (dk_at dksX4_mayAlias_1 8 rfl rfl)
theorem dX4_mayAlias_31 : decode cX4_mayAlias 31 = .ok (.iload_n 2, 1) := dk_28 (dk_at dksX4_mayAlias_1 9 rfl rfl)
theorem dX4_mayAlias_32 : decode cX4_mayAlias 32 = .ok (.invokevirtual 254, 3) := dk_182 0 254 (dk_at dksX4_mayAlias_1 10 rfl rfl)
theorem dX4_mayAlias_35 : decode cX4_mayAlias 35 = .ok (.land, 1) := dk_127 (dk_at dksX4_mayAlias_1 13 rfl rfl)
theorem dX4_mayAlias_36 : decode cX4_mayAlias 36 = .ok (.lconst 0, 1) := dk_9 (dk_at dksX4_mayAlias_1 14 rfl rfl)
theorem dX4_mayAlias_37 : decode cX4_mayAlias 37 = .ok (.lcmp, 1) := dk_148 (dk_at dksX4_mayAlias_1 15 rfl rfl)
theorem dX4_mayAlias_38 : decode cX4_mayAlias 38 = .ok (.ifCond .eq 7, 3) := dk_153 0 7 (dk_at dksX4_mayAlias_1 16 rfl rfl)
theorem dX4_mayAlias_41 : decode cX4_mayAlias 41 = .ok (.iconst 1, 1) := dk_4 (dk_at dksX4_mayAlias_1 19 rfl rfl)
theorem dX4_mayAlias_42 : decode cX4_mayAlias 42 = .ok (.goto 4, 3) := dk_167 0 4 (dk_at dksX4_mayAlias_1 20 rfl rfl)
theorem dX4_mayAlias_45 : decode cX4_mayAlias 45 = .ok (.iconst 0, 1) := dk_3 (dk_at dksX4_mayAlias_1 23 rfl rfl)
theorem dX4_mayAlias_46 : decode cX4_mayAlias 46 = .ok (.ireturn, 1) := dk_172 (dk_at dksX4_mayAlias_2 0 rfl rfl)
abbrev cX4_refuses : ByteArray := prog_21_method_4_code
def yX4_refuses : MethodName := ⟨RX4, "refuses", "(I)Z"⟩
def dkwX4_refuses_0 : List UInt8 := [42, 27, 181, 0, 84, 3, 172]
abbrev dktX4_refuses_0 : List UInt8 := dkwX4_refuses_0 ++ []
theorem dksX4_refuses_0 : cX4_refuses.data.toList.drop 0 = dktX4_refuses_0 := by decide +kernel
theorem dX4_refuses_0 : decode cX4_refuses 0 = .ok (.aload_n 0, 1) := dk_42 (dk_at dksX4_refuses_0 0 rfl rfl)
theorem dX4_refuses_1 : decode cX4_refuses 1 = .ok (.iload_n 1, 1) := dk_27 (dk_at dksX4_refuses_0 1 rfl rfl)
theorem dX4_refuses_2 : decode cX4_refuses 2 = .ok (.putfield 84, 3) := dk_181 0 84 (dk_at dksX4_refuses_0 2 rfl rfl)
theorem dX4_refuses_5 : decode cX4_refuses 5 = .ok (.iconst 0, 1) := dk_3 (dk_at dksX4_refuses_0 5 rfl rfl)
theorem dX4_refuses_6 : decode cX4_refuses 6 = .ok (.ireturn, 1) := dk_172 (dk_at dksX4_refuses_0 6 rfl rfl)
abbrev cX4_reach : ByteArray := prog_21_method_63_code
def yX4_reach : MethodName := ⟨RX4, "reach", "(I)J"⟩
def dkwX4_reach_1 : List UInt8 := [173]
abbrev dktX4_reach_1 : List UInt8 := dkwX4_reach_1 ++ []
def dkwX4_reach_0 : List UInt8 := [27, 184, 0, 251, 154, 0, 10, 42, 4, 182, 0, 98, 133, 173, 42, 3, 181, 0, 84, 42, 27, 182, 1, 11]
abbrev dktX4_reach_0 : List UInt8 := dkwX4_reach_0 ++ dktX4_reach_1
theorem dksX4_reach_0 : cX4_reach.data.toList.drop 0 = dktX4_reach_0 := by decide +kernel
theorem dksX4_reach_1 : cX4_reach.data.toList.drop 24 = dktX4_reach_1 := dk_seg dksX4_reach_0 24 rfl rfl
theorem dX4_reach_0 : decode cX4_reach 0 = .ok (.iload_n 1, 1) := dk_27 (dk_at dksX4_reach_0 0 rfl rfl)
theorem dX4_reach_1 : decode cX4_reach 1 = .ok (.invokestatic 251, 3) := dk_184 0 251 (dk_at dksX4_reach_0 1 rfl rfl)
theorem dX4_reach_4 : decode cX4_reach 4 = .ok (.ifCond .ne 10, 3) := dk_154 0 10 (dk_at dksX4_reach_0 4 rfl rfl)
theorem dX4_reach_7 : decode cX4_reach 7 = .ok (.aload_n 0, 1) := dk_42 (dk_at dksX4_reach_0 7 rfl rfl)
theorem dX4_reach_8 : decode cX4_reach 8 = .ok (.iconst 1, 1) := dk_4 (dk_at dksX4_reach_0 8 rfl rfl)
theorem dX4_reach_9 : decode cX4_reach 9 = .ok (.invokevirtual 98, 3) := dk_182 0 98 (dk_at dksX4_reach_0 9 rfl rfl)
theorem dX4_reach_12 : decode cX4_reach 12 = .ok (.i2l, 1) := dk_133 (dk_at dksX4_reach_0 12 rfl rfl)
theorem dX4_reach_13 : decode cX4_reach 13 = .ok (.lreturn, 1) := dk_173 (dk_at dksX4_reach_0 13 rfl rfl)
theorem dX4_reach_14 : decode cX4_reach 14 = .ok (.aload_n 0, 1) := dk_42 (dk_at dksX4_reach_0 14 rfl rfl)
theorem dX4_reach_15 : decode cX4_reach 15 = .ok (.iconst 0, 1) := dk_3 (dk_at dksX4_reach_0 15 rfl rfl)
theorem dX4_reach_16 : decode cX4_reach 16 = .ok (.putfield 84, 3) := dk_181 0 84 (dk_at dksX4_reach_0 16 rfl rfl)
theorem dX4_reach_19 : decode cX4_reach 19 = .ok (.aload_n 0, 1) := dk_42 (dk_at dksX4_reach_0 19 rfl rfl)
theorem dX4_reach_20 : decode cX4_reach 20 = .ok (.iload_n 1, 1) := dk_27 (dk_at dksX4_reach_0 20 rfl rfl)
theorem dX4_reach_21 : decode cX4_reach 21 = .ok (.invokevirtual 267, 3) := dk_182 1 11 (dk_at dksX4_reach_0 21 rfl rfl)
theorem dX4_reach_24 : decode cX4_reach 24 = .ok (.lreturn, 1) := dk_173 (dk_at dksX4_reach_1 0 rfl rfl)
abbrev cX4_reached : ByteArray := prog_21_method_62_code
def yX4_reached : MethodName := ⟨RX4, "reached", "(I)J"⟩
def dkwX4_reached_2 : List UInt8 := [167, 0, 4, 9, 129, 65, 132, 6, 1, 167, 255, 221, 167, 255, 205, 32, 173]
abbrev dktX4_reached_2 : List UInt8 := dkwX4_reached_2 ++ []
def dkwX4_reached_1 : List UInt8 := [16, 44, 162, 0, 34, 32, 22, 4, 21, 6, 123, 10, 127, 10, 148, 154, 0, 12, 42, 21, 6, 182, 0, 254]
abbrev dktX4_reached_1 : List UInt8 := dkwX4_reached_1 ++ dktX4_reached_2
def dkwX4_reached_0 : List UInt8 := [42, 27, 182, 0, 254, 65, 9, 55, 4, 22, 4, 32, 148, 153, 0, 50, 32, 55, 4, 3, 54, 6, 21, 6]
abbrev dktX4_reached_0 : List UInt8 := dkwX4_reached_0 ++ dktX4_reached_1
theorem dksX4_reached_0 : cX4_reached.data.toList.drop 0 = dktX4_reached_0 := by decide +kernel
theorem dksX4_reached_1 : cX4_reached.data.toList.drop 24 = dktX4_reached_1 := dk_seg dksX4_reached_0 24 rfl rfl
theorem dksX4_reached_2 : cX4_reached.data.toList.drop 48 = dktX4_reached_2 := dk_seg dksX4_reached_1 24 rfl rfl
theorem dX4_reached_0 : decode cX4_reached 0 = .ok (.aload_n 0, 1) := dk_42 (dk_at dksX4_reached_0 0 rfl rfl)
theorem dX4_reached_1 : decode cX4_reached 1 = .ok (.iload_n 1, 1) := dk_27 (dk_at dksX4_reached_0 1 rfl rfl)
theorem dX4_reached_2 : decode cX4_reached 2 = .ok (.invokevirtual 254, 3) := dk_182 0 254 (dk_at dksX4_reached_0 2 rfl rfl)
theorem dX4_reached_5 : decode cX4_reached 5 = .ok (.lstore_n 2, 1) := dk_65 (dk_at dksX4_reached_0 5 rfl rfl)
theorem dX4_reached_6 : decode cX4_reached 6 = .ok (.lconst 0, 1) := dk_9 (dk_at dksX4_reached_0 6 rfl rfl)
theorem dX4_reached_7 : decode cX4_reached 7 = .ok (.lstore 4, 2) := dk_55 4 (dk_at dksX4_reached_0 7 rfl rfl)
theorem dX4_reached_9 : decode cX4_reached 9 = .ok (.lload 4, 2) := dk_22 4 (dk_at dksX4_reached_0 9 rfl rfl)
theorem dX4_reached_11 : decode cX4_reached 11 = .ok (.lload_n 2, 1) := dk_32 (dk_at dksX4_reached_0 11 rfl rfl)
theorem dX4_reached_12 : decode cX4_reached 12 = .ok (.lcmp, 1) := dk_148 (dk_at dksX4_reached_0 12 rfl rfl)
theorem dX4_reached_13 : decode cX4_reached 13 = .ok (.ifCond .eq 50, 3) := dk_153 0 50 (dk_at dksX4_reached_0 13 rfl rfl)
theorem dX4_reached_16 : decode cX4_reached 16 = .ok (.lload_n 2, 1) := dk_32 (dk_at dksX4_reached_0 16 rfl rfl)
theorem dX4_reached_17 : decode cX4_reached 17 = .ok (.lstore 4, 2) := dk_55 4 (dk_at dksX4_reached_0 17 rfl rfl)
theorem dX4_reached_19 : decode cX4_reached 19 = .ok (.iconst 0, 1) := dk_3 (dk_at dksX4_reached_0 19 rfl rfl)
theorem dX4_reached_20 : decode cX4_reached 20 = .ok (.istore 6, 2) := dk_54 6 (dk_at dksX4_reached_0 20 rfl rfl)
theorem dX4_reached_22 : decode cX4_reached 22 = .ok (.iload 6, 2) := dk_21 6 (dk_at dksX4_reached_0 22 rfl rfl)
theorem dX4_reached_24 : decode cX4_reached 24 = .ok (.bipush 44, 2) := dk_16 44 (dk_at dksX4_reached_1 0 rfl rfl)
theorem dX4_reached_26 : decode cX4_reached 26 = .ok (.if_icmp .ge 34, 3) := dk_162 0 34 (dk_at dksX4_reached_1 2 rfl rfl)
theorem dX4_reached_29 : decode cX4_reached 29 = .ok (.lload_n 2, 1) := dk_32 (dk_at dksX4_reached_1 5 rfl rfl)
theorem dX4_reached_30 : decode cX4_reached 30 = .ok (.lload 4, 2) := dk_22 4 (dk_at dksX4_reached_1 6 rfl rfl)
theorem dX4_reached_32 : decode cX4_reached 32 = .ok (.iload 6, 2) := dk_21 6 (dk_at dksX4_reached_1 8 rfl rfl)
theorem dX4_reached_34 : decode cX4_reached 34 = .ok (.lshr, 1) := dk_123 (dk_at dksX4_reached_1 10 rfl rfl)
theorem dX4_reached_35 : decode cX4_reached 35 = .ok (.lconst 1, 1) := dk_10 (dk_at dksX4_reached_1 11 rfl rfl)
theorem dX4_reached_36 : decode cX4_reached 36 = .ok (.land, 1) := dk_127 (dk_at dksX4_reached_1 12 rfl rfl)
theorem dX4_reached_37 : decode cX4_reached 37 = .ok (.lconst 1, 1) := dk_10 (dk_at dksX4_reached_1 13 rfl rfl)
theorem dX4_reached_38 : decode cX4_reached 38 = .ok (.lcmp, 1) := dk_148 (dk_at dksX4_reached_1 14 rfl rfl)
theorem dX4_reached_39 : decode cX4_reached 39 = .ok (.ifCond .ne 12, 3) := dk_154 0 12 (dk_at dksX4_reached_1 15 rfl rfl)
theorem dX4_reached_42 : decode cX4_reached 42 = .ok (.aload_n 0, 1) := dk_42 (dk_at dksX4_reached_1 18 rfl rfl)
theorem dX4_reached_43 : decode cX4_reached 43 = .ok (.iload 6, 2) := dk_21 6 (dk_at dksX4_reached_1 19 rfl rfl)
theorem dX4_reached_45 : decode cX4_reached 45 = .ok (.invokevirtual 254, 3) := dk_182 0 254 (dk_at dksX4_reached_1 21 rfl rfl)
theorem dX4_reached_48 : decode cX4_reached 48 = .ok (.goto 4, 3) := dk_167 0 4 (dk_at dksX4_reached_2 0 rfl rfl)
theorem dX4_reached_51 : decode cX4_reached 51 = .ok (.lconst 0, 1) := dk_9 (dk_at dksX4_reached_2 3 rfl rfl)
theorem dX4_reached_52 : decode cX4_reached 52 = .ok (.lor, 1) := dk_129 (dk_at dksX4_reached_2 4 rfl rfl)
theorem dX4_reached_53 : decode cX4_reached 53 = .ok (.lstore_n 2, 1) := dk_65 (dk_at dksX4_reached_2 5 rfl rfl)
theorem dX4_reached_54 : decode cX4_reached 54 = .ok (.iinc 6 1, 3) := dk_132 6 1 (dk_at dksX4_reached_2 6 rfl rfl)
theorem dX4_reached_57 : decode cX4_reached 57 = .ok (.goto (-35), 3) := dk_167 255 221 (dk_at dksX4_reached_2 9 rfl rfl)
theorem dX4_reached_60 : decode cX4_reached 60 = .ok (.goto (-51), 3) := dk_167 255 205 (dk_at dksX4_reached_2 12 rfl rfl)
theorem dX4_reached_63 : decode cX4_reached 63 = .ok (.lload_n 2, 1) := dk_32 (dk_at dksX4_reached_2 15 rfl rfl)
theorem dX4_reached_64 : decode cX4_reached 64 = .ok (.lreturn, 1) := dk_173 (dk_at dksX4_reached_2 16 rfl rfl)
abbrev cX4_escapingSites : ByteArray := prog_21_method_64_code
def yX4_escapingSites : MethodName := ⟨RX4, "escapingSites", "()I"⟩
def dkwX4_escapingSites_3 : List UInt8 := [132, 4, 1, 167, 255, 217, 29, 172]
abbrev dktX4_escapingSites_3 : List UInt8 := dkwX4_escapingSites_3 ++ []
def dkwX4_escapingSites_2 : List UInt8 := [104, 96, 123, 20, 1, 14, 127, 9, 148, 153, 0, 10, 4, 21, 4, 120, 167, 0, 4, 3, 128, 62]
abbrev dktX4_escapingSites_2 : List UInt8 := dkwX4_escapingSites_2 ++ dktX4_escapingSites_3
def dkwX4_escapingSites_1 : List UInt8 := [182, 1, 11, 129, 64, 3, 62, 3, 54, 4, 21, 4, 16, 8, 162, 0, 38, 29, 31, 16, 20, 6, 21, 4]
abbrev dktX4_escapingSites_1 : List UInt8 := dkwX4_escapingSites_1 ++ dktX4_escapingSites_2
def dkwX4_escapingSites_0 : List UInt8 := [42, 3, 181, 0, 84, 42, 3, 182, 1, 11, 42, 4, 182, 1, 11, 129, 42, 5, 182, 1, 11, 129, 42, 6]
abbrev dktX4_escapingSites_0 : List UInt8 := dkwX4_escapingSites_0 ++ dktX4_escapingSites_1
theorem dksX4_escapingSites_0 : cX4_escapingSites.data.toList.drop 0 = dktX4_escapingSites_0 := by decide +kernel
theorem dksX4_escapingSites_1 : cX4_escapingSites.data.toList.drop 24 = dktX4_escapingSites_1 := dk_seg dksX4_escapingSites_0 24 rfl rfl
theorem dksX4_escapingSites_2 : cX4_escapingSites.data.toList.drop 48 = dktX4_escapingSites_2 := dk_seg dksX4_escapingSites_1 24 rfl rfl
theorem dksX4_escapingSites_3 : cX4_escapingSites.data.toList.drop 70 = dktX4_escapingSites_3 := dk_seg dksX4_escapingSites_2 22 rfl rfl
theorem dX4_escapingSites_0 : decode cX4_escapingSites 0 = .ok (.aload_n 0, 1) := dk_42 (dk_at dksX4_escapingSites_0 0 rfl rfl)
theorem dX4_escapingSites_1 : decode cX4_escapingSites 1 = .ok (.iconst 0, 1) := dk_3 (dk_at dksX4_escapingSites_0 1 rfl rfl)
theorem dX4_escapingSites_2 : decode cX4_escapingSites 2 = .ok (.putfield 84, 3) := dk_181 0 84 (dk_at dksX4_escapingSites_0 2 rfl rfl)
theorem dX4_escapingSites_5 : decode cX4_escapingSites 5 = .ok (.aload_n 0, 1) := dk_42 (dk_at dksX4_escapingSites_0 5 rfl rfl)
theorem dX4_escapingSites_6 : decode cX4_escapingSites 6 = .ok (.iconst 0, 1) := dk_3 (dk_at dksX4_escapingSites_0 6 rfl rfl)
theorem dX4_escapingSites_7 : decode cX4_escapingSites 7 = .ok (.invokevirtual 267, 3) := dk_182 1 11 (dk_at dksX4_escapingSites_0 7 rfl rfl)
theorem dX4_escapingSites_10 : decode cX4_escapingSites 10 = .ok (.aload_n 0, 1) := dk_42 (dk_at dksX4_escapingSites_0 10 rfl rfl)
theorem dX4_escapingSites_11 : decode cX4_escapingSites 11 = .ok (.iconst 1, 1) := dk_4 (dk_at dksX4_escapingSites_0 11 rfl rfl)
theorem dX4_escapingSites_12 : decode cX4_escapingSites 12 = .ok (.invokevirtual 267, 3) := dk_182 1 11 (dk_at dksX4_escapingSites_0 12 rfl rfl)
theorem dX4_escapingSites_15 : decode cX4_escapingSites 15 = .ok (.lor, 1) := dk_129 (dk_at dksX4_escapingSites_0 15 rfl rfl)
theorem dX4_escapingSites_16 : decode cX4_escapingSites 16 = .ok (.aload_n 0, 1) := dk_42 (dk_at dksX4_escapingSites_0 16 rfl rfl)
theorem dX4_escapingSites_17 : decode cX4_escapingSites 17 = .ok (.iconst 2, 1) := dk_5 (dk_at dksX4_escapingSites_0 17 rfl rfl)
theorem dX4_escapingSites_18 : decode cX4_escapingSites 18 = .ok (.invokevirtual 267, 3) := dk_182 1 11 (dk_at dksX4_escapingSites_0 18 rfl rfl)
theorem dX4_escapingSites_21 : decode cX4_escapingSites 21 = .ok (.lor, 1) := dk_129 (dk_at dksX4_escapingSites_0 21 rfl rfl)
theorem dX4_escapingSites_22 : decode cX4_escapingSites 22 = .ok (.aload_n 0, 1) := dk_42 (dk_at dksX4_escapingSites_0 22 rfl rfl)
theorem dX4_escapingSites_23 : decode cX4_escapingSites 23 = .ok (.iconst 3, 1) := dk_6 (dk_at dksX4_escapingSites_0 23 rfl rfl)
theorem dX4_escapingSites_24 : decode cX4_escapingSites 24 = .ok (.invokevirtual 267, 3) := dk_182 1 11 (dk_at dksX4_escapingSites_1 0 rfl rfl)
theorem dX4_escapingSites_27 : decode cX4_escapingSites 27 = .ok (.lor, 1) := dk_129 (dk_at dksX4_escapingSites_1 3 rfl rfl)
theorem dX4_escapingSites_28 : decode cX4_escapingSites 28 = .ok (.lstore_n 1, 1) := dk_64 (dk_at dksX4_escapingSites_1 4 rfl rfl)
theorem dX4_escapingSites_29 : decode cX4_escapingSites 29 = .ok (.iconst 0, 1) := dk_3 (dk_at dksX4_escapingSites_1 5 rfl rfl)
theorem dX4_escapingSites_30 : decode cX4_escapingSites 30 = .ok (.istore_n 3, 1) := dk_62 (dk_at dksX4_escapingSites_1 6 rfl rfl)
theorem dX4_escapingSites_31 : decode cX4_escapingSites 31 = .ok (.iconst 0, 1) := dk_3 (dk_at dksX4_escapingSites_1 7 rfl rfl)
theorem dX4_escapingSites_32 : decode cX4_escapingSites 32 = .ok (.istore 4, 2) := dk_54 4 (dk_at dksX4_escapingSites_1 8 rfl rfl)
theorem dX4_escapingSites_34 : decode cX4_escapingSites 34 = .ok (.iload 4, 2) := dk_21 4 (dk_at dksX4_escapingSites_1 10 rfl rfl)
theorem dX4_escapingSites_36 : decode cX4_escapingSites 36 = .ok (.bipush 8, 2) := dk_16 8 (dk_at dksX4_escapingSites_1 12 rfl rfl)
theorem dX4_escapingSites_38 : decode cX4_escapingSites 38 = .ok (.if_icmp .ge 38, 3) := dk_162 0 38 (dk_at dksX4_escapingSites_1 14 rfl rfl)
theorem dX4_escapingSites_41 : decode cX4_escapingSites 41 = .ok (.iload_n 3, 1) := dk_29 (dk_at dksX4_escapingSites_1 17 rfl rfl)
theorem dX4_escapingSites_42 : decode cX4_escapingSites 42 = .ok (.lload_n 1, 1) := dk_31 (dk_at dksX4_escapingSites_1 18 rfl rfl)
theorem dX4_escapingSites_43 : decode cX4_escapingSites 43 = .ok (.bipush 20, 2) := dk_16 20 (dk_at dksX4_escapingSites_1 19 rfl rfl)
theorem dX4_escapingSites_45 : decode cX4_escapingSites 45 = .ok (.iconst 3, 1) := dk_6 (dk_at dksX4_escapingSites_1 21 rfl rfl)
theorem dX4_escapingSites_46 : decode cX4_escapingSites 46 = .ok (.iload 4, 2) := dk_21 4 (dk_at dksX4_escapingSites_1 22 rfl rfl)
theorem dX4_escapingSites_48 : decode cX4_escapingSites 48 = .ok (.imul, 1) := dk_104 (dk_at dksX4_escapingSites_2 0 rfl rfl)
theorem dX4_escapingSites_49 : decode cX4_escapingSites 49 = .ok (.iadd, 1) := dk_96 (dk_at dksX4_escapingSites_2 1 rfl rfl)
theorem dX4_escapingSites_50 : decode cX4_escapingSites 50 = .ok (.lshr, 1) := dk_123 (dk_at dksX4_escapingSites_2 2 rfl rfl)
theorem dX4_escapingSites_51 : decode cX4_escapingSites 51 = .ok (.ldc2_w 270, 3) := dk_20 1 14 (dk_at dksX4_escapingSites_2 3 rfl rfl)
theorem dX4_escapingSites_54 : decode cX4_escapingSites 54 = .ok (.land, 1) := dk_127 (dk_at dksX4_escapingSites_2 6 rfl rfl)
theorem dX4_escapingSites_55 : decode cX4_escapingSites 55 = .ok (.lconst 0, 1) := dk_9 (dk_at dksX4_escapingSites_2 7 rfl rfl)
theorem dX4_escapingSites_56 : decode cX4_escapingSites 56 = .ok (.lcmp, 1) := dk_148 (dk_at dksX4_escapingSites_2 8 rfl rfl)
theorem dX4_escapingSites_57 : decode cX4_escapingSites 57 = .ok (.ifCond .eq 10, 3) := dk_153 0 10 (dk_at dksX4_escapingSites_2 9 rfl rfl)
theorem dX4_escapingSites_60 : decode cX4_escapingSites 60 = .ok (.iconst 1, 1) := dk_4 (dk_at dksX4_escapingSites_2 12 rfl rfl)
theorem dX4_escapingSites_61 : decode cX4_escapingSites 61 = .ok (.iload 4, 2) := dk_21 4 (dk_at dksX4_escapingSites_2 13 rfl rfl)
theorem dX4_escapingSites_63 : decode cX4_escapingSites 63 = .ok (.ishl, 1) := dk_120 (dk_at dksX4_escapingSites_2 15 rfl rfl)
theorem dX4_escapingSites_64 : decode cX4_escapingSites 64 = .ok (.goto 4, 3) := dk_167 0 4 (dk_at dksX4_escapingSites_2 16 rfl rfl)
theorem dX4_escapingSites_67 : decode cX4_escapingSites 67 = .ok (.iconst 0, 1) := dk_3 (dk_at dksX4_escapingSites_2 19 rfl rfl)
theorem dX4_escapingSites_68 : decode cX4_escapingSites 68 = .ok (.ior, 1) := dk_128 (dk_at dksX4_escapingSites_2 20 rfl rfl)
theorem dX4_escapingSites_69 : decode cX4_escapingSites 69 = .ok (.istore_n 3, 1) := dk_62 (dk_at dksX4_escapingSites_2 21 rfl rfl)
theorem dX4_escapingSites_70 : decode cX4_escapingSites 70 = .ok (.iinc 4 1, 3) := dk_132 4 1 (dk_at dksX4_escapingSites_3 0 rfl rfl)
theorem dX4_escapingSites_73 : decode cX4_escapingSites 73 = .ok (.goto (-39), 3) := dk_167 255 217 (dk_at dksX4_escapingSites_3 3 rfl rfl)
theorem dX4_escapingSites_76 : decode cX4_escapingSites 76 = .ok (.iload_n 3, 1) := dk_29 (dk_at dksX4_escapingSites_3 6 rfl rfl)
theorem dX4_escapingSites_77 : decode cX4_escapingSites 77 = .ok (.ireturn, 1) := dk_172 (dk_at dksX4_escapingSites_3 7 rfl rfl)
abbrev cX4_rank : ByteArray := prog_21_method_67_code
def yX4_rank : MethodName := ⟨RX4, "rank", "(II)I"⟩
def dkwX4_rank_1 : List UInt8 := [172]
abbrev dktX4_rank_1 : List UInt8 := dkwX4_rank_1 ++ []
def dkwX4_rank_0 : List UInt8 := [42, 27, 28, 182, 1, 19, 62, 42, 180, 0, 84, 158, 0, 7, 3, 167, 0, 9, 42, 180, 0, 45, 29, 46]
abbrev dktX4_rank_0 : List UInt8 := dkwX4_rank_0 ++ dktX4_rank_1
theorem dksX4_rank_0 : cX4_rank.data.toList.drop 0 = dktX4_rank_0 := by decide +kernel
theorem dksX4_rank_1 : cX4_rank.data.toList.drop 24 = dktX4_rank_1 := dk_seg dksX4_rank_0 24 rfl rfl
theorem dX4_rank_0 : decode cX4_rank 0 = .ok (.aload_n 0, 1) := dk_42 (dk_at dksX4_rank_0 0 rfl rfl)
theorem dX4_rank_1 : decode cX4_rank 1 = .ok (.iload_n 1, 1) := dk_27 (dk_at dksX4_rank_0 1 rfl rfl)
theorem dX4_rank_2 : decode cX4_rank 2 = .ok (.iload_n 2, 1) := dk_28 (dk_at dksX4_rank_0 2 rfl rfl)
theorem dX4_rank_3 : decode cX4_rank 3 = .ok (.invokevirtual 275, 3) := dk_182 1 19 (dk_at dksX4_rank_0 3 rfl rfl)
theorem dX4_rank_6 : decode cX4_rank 6 = .ok (.istore_n 3, 1) := dk_62 (dk_at dksX4_rank_0 6 rfl rfl)
theorem dX4_rank_7 : decode cX4_rank 7 = .ok (.aload_n 0, 1) := dk_42 (dk_at dksX4_rank_0 7 rfl rfl)
theorem dX4_rank_8 : decode cX4_rank 8 = .ok (.getfield 84, 3) := dk_180 0 84 (dk_at dksX4_rank_0 8 rfl rfl)
theorem dX4_rank_11 : decode cX4_rank 11 = .ok (.ifCond .le 7, 3) := dk_158 0 7 (dk_at dksX4_rank_0 11 rfl rfl)
theorem dX4_rank_14 : decode cX4_rank 14 = .ok (.iconst 0, 1) := dk_3 (dk_at dksX4_rank_0 14 rfl rfl)
theorem dX4_rank_15 : decode cX4_rank 15 = .ok (.goto 9, 3) := dk_167 0 9 (dk_at dksX4_rank_0 15 rfl rfl)
theorem dX4_rank_18 : decode cX4_rank 18 = .ok (.aload_n 0, 1) := dk_42 (dk_at dksX4_rank_0 18 rfl rfl)
theorem dX4_rank_19 : decode cX4_rank 19 = .ok (.getfield 45, 3) := dk_180 0 45 (dk_at dksX4_rank_0 19 rfl rfl)
theorem dX4_rank_22 : decode cX4_rank 22 = .ok (.iload_n 3, 1) := dk_29 (dk_at dksX4_rank_0 22 rfl rfl)
theorem dX4_rank_23 : decode cX4_rank 23 = .ok (.iaload, 1) := dk_46 (dk_at dksX4_rank_0 23 rfl rfl)
theorem dX4_rank_24 : decode cX4_rank 24 = .ok (.ireturn, 1) := dk_172 (dk_at dksX4_rank_1 0 rfl rfl)
abbrev cX4_factAt : ByteArray := prog_21_method_66_code
def yX4_factAt : MethodName := ⟨RX4, "factAt", "(II)I"⟩
def dkwX4_factAt_2 : List UInt8 := [46, 154, 0, 7, 5, 167, 0, 4, 3, 181, 0, 84, 16, 44, 27, 104, 28, 96, 172]
abbrev dktX4_factAt_2 : List UInt8 := dkwX4_factAt_2 ++ []
def dkwX4_factAt_1 : List UInt8 := [42, 180, 0, 84, 158, 0, 5, 3, 172, 42, 182, 0, 235, 42, 42, 180, 0, 45, 16, 44, 27, 104, 28, 96]
abbrev dktX4_factAt_1 : List UInt8 := dkwX4_factAt_1 ++ dktX4_factAt_2
def dkwX4_factAt_0 : List UInt8 := [42, 27, 184, 0, 251, 153, 0, 11, 42, 28, 182, 1, 16, 154, 0, 7, 4, 167, 0, 4, 3, 181, 0, 84]
abbrev dktX4_factAt_0 : List UInt8 := dkwX4_factAt_0 ++ dktX4_factAt_1
theorem dksX4_factAt_0 : cX4_factAt.data.toList.drop 0 = dktX4_factAt_0 := by decide +kernel
theorem dksX4_factAt_1 : cX4_factAt.data.toList.drop 24 = dktX4_factAt_1 := dk_seg dksX4_factAt_0 24 rfl rfl
theorem dksX4_factAt_2 : cX4_factAt.data.toList.drop 48 = dktX4_factAt_2 := dk_seg dksX4_factAt_1 24 rfl rfl
theorem dX4_factAt_0 : decode cX4_factAt 0 = .ok (.aload_n 0, 1) := dk_42 (dk_at dksX4_factAt_0 0 rfl rfl)
theorem dX4_factAt_1 : decode cX4_factAt 1 = .ok (.iload_n 1, 1) := dk_27 (dk_at dksX4_factAt_0 1 rfl rfl)
theorem dX4_factAt_2 : decode cX4_factAt 2 = .ok (.invokestatic 251, 3) := dk_184 0 251 (dk_at dksX4_factAt_0 2 rfl rfl)
theorem dX4_factAt_5 : decode cX4_factAt 5 = .ok (.ifCond .eq 11, 3) := dk_153 0 11 (dk_at dksX4_factAt_0 5 rfl rfl)
theorem dX4_factAt_8 : decode cX4_factAt 8 = .ok (.aload_n 0, 1) := dk_42 (dk_at dksX4_factAt_0 8 rfl rfl)
theorem dX4_factAt_9 : decode cX4_factAt 9 = .ok (.iload_n 2, 1) := dk_28 (dk_at dksX4_factAt_0 9 rfl rfl)
theorem dX4_factAt_10 : decode cX4_factAt 10 = .ok (.invokevirtual 272, 3) := dk_182 1 16 (dk_at dksX4_factAt_0 10 rfl rfl)
theorem dX4_factAt_13 : decode cX4_factAt 13 = .ok (.ifCond .ne 7, 3) := dk_154 0 7 (dk_at dksX4_factAt_0 13 rfl rfl)
theorem dX4_factAt_16 : decode cX4_factAt 16 = .ok (.iconst 1, 1) := dk_4 (dk_at dksX4_factAt_0 16 rfl rfl)
theorem dX4_factAt_17 : decode cX4_factAt 17 = .ok (.goto 4, 3) := dk_167 0 4 (dk_at dksX4_factAt_0 17 rfl rfl)
theorem dX4_factAt_20 : decode cX4_factAt 20 = .ok (.iconst 0, 1) := dk_3 (dk_at dksX4_factAt_0 20 rfl rfl)
theorem dX4_factAt_21 : decode cX4_factAt 21 = .ok (.putfield 84, 3) := dk_181 0 84 (dk_at dksX4_factAt_0 21 rfl rfl)
theorem dX4_factAt_24 : decode cX4_factAt 24 = .ok (.aload_n 0, 1) := dk_42 (dk_at dksX4_factAt_1 0 rfl rfl)
theorem dX4_factAt_25 : decode cX4_factAt 25 = .ok (.getfield 84, 3) := dk_180 0 84 (dk_at dksX4_factAt_1 1 rfl rfl)
theorem dX4_factAt_28 : decode cX4_factAt 28 = .ok (.ifCond .le 5, 3) := dk_158 0 5 (dk_at dksX4_factAt_1 4 rfl rfl)
theorem dX4_factAt_31 : decode cX4_factAt 31 = .ok (.iconst 0, 1) := dk_3 (dk_at dksX4_factAt_1 7 rfl rfl)
theorem dX4_factAt_32 : decode cX4_factAt 32 = .ok (.ireturn, 1) := dk_172 (dk_at dksX4_factAt_1 8 rfl rfl)
theorem dX4_factAt_33 : decode cX4_factAt 33 = .ok (.aload_n 0, 1) := dk_42 (dk_at dksX4_factAt_1 9 rfl rfl)
theorem dX4_factAt_34 : decode cX4_factAt 34 = .ok (.invokevirtual 235, 3) := dk_182 0 235 (dk_at dksX4_factAt_1 10 rfl rfl)
theorem dX4_factAt_37 : decode cX4_factAt 37 = .ok (.aload_n 0, 1) := dk_42 (dk_at dksX4_factAt_1 13 rfl rfl)
theorem dX4_factAt_38 : decode cX4_factAt 38 = .ok (.aload_n 0, 1) := dk_42 (dk_at dksX4_factAt_1 14 rfl rfl)
theorem dX4_factAt_39 : decode cX4_factAt 39 = .ok (.getfield 45, 3) := dk_180 0 45 (dk_at dksX4_factAt_1 15 rfl rfl)
theorem dX4_factAt_42 : decode cX4_factAt 42 = .ok (.bipush 44, 2) := dk_16 44 (dk_at dksX4_factAt_1 18 rfl rfl)
theorem dX4_factAt_44 : decode cX4_factAt 44 = .ok (.iload_n 1, 1) := dk_27 (dk_at dksX4_factAt_1 20 rfl rfl)
theorem dX4_factAt_45 : decode cX4_factAt 45 = .ok (.imul, 1) := dk_104 (dk_at dksX4_factAt_1 21 rfl rfl)
theorem dX4_factAt_46 : decode cX4_factAt 46 = .ok (.iload_n 2, 1) := dk_28 (dk_at dksX4_factAt_1 22 rfl rfl)
theorem dX4_factAt_47 : decode cX4_factAt 47 = .ok (.iadd, 1) := dk_96 (dk_at dksX4_factAt_1 23 rfl rfl)
theorem dX4_factAt_48 : decode cX4_factAt 48 = .ok (.iaload, 1) := dk_46 (dk_at dksX4_factAt_2 0 rfl rfl)
theorem dX4_factAt_49 : decode cX4_factAt 49 = .ok (.ifCond .ne 7, 3) := dk_154 0 7 (dk_at dksX4_factAt_2 1 rfl rfl)
theorem dX4_factAt_52 : decode cX4_factAt 52 = .ok (.iconst 2, 1) := dk_5 (dk_at dksX4_factAt_2 4 rfl rfl)
theorem dX4_factAt_53 : decode cX4_factAt 53 = .ok (.goto 4, 3) := dk_167 0 4 (dk_at dksX4_factAt_2 5 rfl rfl)
theorem dX4_factAt_56 : decode cX4_factAt 56 = .ok (.iconst 0, 1) := dk_3 (dk_at dksX4_factAt_2 8 rfl rfl)
theorem dX4_factAt_57 : decode cX4_factAt 57 = .ok (.putfield 84, 3) := dk_181 0 84 (dk_at dksX4_factAt_2 9 rfl rfl)
theorem dX4_factAt_60 : decode cX4_factAt 60 = .ok (.bipush 44, 2) := dk_16 44 (dk_at dksX4_factAt_2 12 rfl rfl)
theorem dX4_factAt_62 : decode cX4_factAt 62 = .ok (.iload_n 1, 1) := dk_27 (dk_at dksX4_factAt_2 14 rfl rfl)
theorem dX4_factAt_63 : decode cX4_factAt 63 = .ok (.imul, 1) := dk_104 (dk_at dksX4_factAt_2 15 rfl rfl)
theorem dX4_factAt_64 : decode cX4_factAt 64 = .ok (.iload_n 2, 1) := dk_28 (dk_at dksX4_factAt_2 16 rfl rfl)
theorem dX4_factAt_65 : decode cX4_factAt 65 = .ok (.iadd, 1) := dk_96 (dk_at dksX4_factAt_2 17 rfl rfl)
theorem dX4_factAt_66 : decode cX4_factAt 66 = .ok (.ireturn, 1) := dk_172 (dk_at dksX4_factAt_2 18 rfl rfl)
abbrev cX4_isTarget : ByteArray := prog_21_method_65_code
def yX4_isTarget : MethodName := ⟨RX4, "isTarget", "(I)Z"⟩
def dkwX4_isTarget_0 : List UInt8 := [27, 155, 0, 20, 27, 16, 20, 6, 42, 182, 0, 168, 104, 96, 162, 0, 7, 4, 167, 0, 4, 3, 172]
abbrev dktX4_isTarget_0 : List UInt8 := dkwX4_isTarget_0 ++ []
theorem dksX4_isTarget_0 : cX4_isTarget.data.toList.drop 0 = dktX4_isTarget_0 := by decide +kernel
theorem dX4_isTarget_0 : decode cX4_isTarget 0 = .ok (.iload_n 1, 1) := dk_27 (dk_at dksX4_isTarget_0 0 rfl rfl)
theorem dX4_isTarget_1 : decode cX4_isTarget 1 = .ok (.ifCond .lt 20, 3) := dk_155 0 20 (dk_at dksX4_isTarget_0 1 rfl rfl)
theorem dX4_isTarget_4 : decode cX4_isTarget 4 = .ok (.iload_n 1, 1) := dk_27 (dk_at dksX4_isTarget_0 4 rfl rfl)
theorem dX4_isTarget_5 : decode cX4_isTarget 5 = .ok (.bipush 20, 2) := dk_16 20 (dk_at dksX4_isTarget_0 5 rfl rfl)
theorem dX4_isTarget_7 : decode cX4_isTarget 7 = .ok (.iconst 3, 1) := dk_6 (dk_at dksX4_isTarget_0 7 rfl rfl)
theorem dX4_isTarget_8 : decode cX4_isTarget 8 = .ok (.aload_n 0, 1) := dk_42 (dk_at dksX4_isTarget_0 8 rfl rfl)
theorem dX4_isTarget_9 : decode cX4_isTarget 9 = .ok (.invokevirtual 168, 3) := dk_182 0 168 (dk_at dksX4_isTarget_0 9 rfl rfl)
theorem dX4_isTarget_12 : decode cX4_isTarget 12 = .ok (.imul, 1) := dk_104 (dk_at dksX4_isTarget_0 12 rfl rfl)
theorem dX4_isTarget_13 : decode cX4_isTarget 13 = .ok (.iadd, 1) := dk_96 (dk_at dksX4_isTarget_0 13 rfl rfl)
theorem dX4_isTarget_14 : decode cX4_isTarget 14 = .ok (.if_icmp .ge 7, 3) := dk_162 0 7 (dk_at dksX4_isTarget_0 14 rfl rfl)
theorem dX4_isTarget_17 : decode cX4_isTarget 17 = .ok (.iconst 1, 1) := dk_4 (dk_at dksX4_isTarget_0 17 rfl rfl)
theorem dX4_isTarget_18 : decode cX4_isTarget 18 = .ok (.goto 4, 3) := dk_167 0 4 (dk_at dksX4_isTarget_0 18 rfl rfl)
theorem dX4_isTarget_21 : decode cX4_isTarget 21 = .ok (.iconst 0, 1) := dk_3 (dk_at dksX4_isTarget_0 21 rfl rfl)
theorem dX4_isTarget_22 : decode cX4_isTarget 22 = .ok (.ireturn, 1) := dk_172 (dk_at dksX4_isTarget_0 22 rfl rfl)
abbrev cX4_reason : ByteArray := prog_21_method_68_code
def yX4_reason : MethodName := ⟨RX4, "reason", "(II)I"⟩
def dkwX4_reason_1 : List UInt8 := [172]
abbrev dktX4_reason_1 : List UInt8 := dkwX4_reason_1 ++ []
def dkwX4_reason_0 : List UInt8 := [42, 27, 28, 182, 1, 19, 62, 42, 180, 0, 84, 158, 0, 7, 3, 167, 0, 9, 42, 180, 0, 48, 29, 46]
abbrev dktX4_reason_0 : List UInt8 := dkwX4_reason_0 ++ dktX4_reason_1
theorem dksX4_reason_0 : cX4_reason.data.toList.drop 0 = dktX4_reason_0 := by decide +kernel
theorem dksX4_reason_1 : cX4_reason.data.toList.drop 24 = dktX4_reason_1 := dk_seg dksX4_reason_0 24 rfl rfl
theorem dX4_reason_0 : decode cX4_reason 0 = .ok (.aload_n 0, 1) := dk_42 (dk_at dksX4_reason_0 0 rfl rfl)
theorem dX4_reason_1 : decode cX4_reason 1 = .ok (.iload_n 1, 1) := dk_27 (dk_at dksX4_reason_0 1 rfl rfl)
theorem dX4_reason_2 : decode cX4_reason 2 = .ok (.iload_n 2, 1) := dk_28 (dk_at dksX4_reason_0 2 rfl rfl)
theorem dX4_reason_3 : decode cX4_reason 3 = .ok (.invokevirtual 275, 3) := dk_182 1 19 (dk_at dksX4_reason_0 3 rfl rfl)
theorem dX4_reason_6 : decode cX4_reason 6 = .ok (.istore_n 3, 1) := dk_62 (dk_at dksX4_reason_0 6 rfl rfl)
theorem dX4_reason_7 : decode cX4_reason 7 = .ok (.aload_n 0, 1) := dk_42 (dk_at dksX4_reason_0 7 rfl rfl)
theorem dX4_reason_8 : decode cX4_reason 8 = .ok (.getfield 84, 3) := dk_180 0 84 (dk_at dksX4_reason_0 8 rfl rfl)
theorem dX4_reason_11 : decode cX4_reason 11 = .ok (.ifCond .le 7, 3) := dk_158 0 7 (dk_at dksX4_reason_0 11 rfl rfl)
theorem dX4_reason_14 : decode cX4_reason 14 = .ok (.iconst 0, 1) := dk_3 (dk_at dksX4_reason_0 14 rfl rfl)
theorem dX4_reason_15 : decode cX4_reason 15 = .ok (.goto 9, 3) := dk_167 0 9 (dk_at dksX4_reason_0 15 rfl rfl)
theorem dX4_reason_18 : decode cX4_reason 18 = .ok (.aload_n 0, 1) := dk_42 (dk_at dksX4_reason_0 18 rfl rfl)
theorem dX4_reason_19 : decode cX4_reason 19 = .ok (.getfield 48, 3) := dk_180 0 48 (dk_at dksX4_reason_0 19 rfl rfl)
theorem dX4_reason_22 : decode cX4_reason 22 = .ok (.iload_n 3, 1) := dk_29 (dk_at dksX4_reason_0 22 rfl rfl)
theorem dX4_reason_23 : decode cX4_reason 23 = .ok (.iaload, 1) := dk_46 (dk_at dksX4_reason_0 23 rfl rfl)
theorem dX4_reason_24 : decode cX4_reason 24 = .ok (.ireturn, 1) := dk_172 (dk_at dksX4_reason_1 0 rfl rfl)
abbrev cX4_roundCount : ByteArray := prog_21_method_69_code
def yX4_roundCount : MethodName := ⟨RX4, "roundCount", "()I"⟩
def dkwX4_roundCount_0 : List UInt8 := [42, 3, 181, 0, 84, 42, 182, 0, 235, 42, 180, 0, 219, 172]
abbrev dktX4_roundCount_0 : List UInt8 := dkwX4_roundCount_0 ++ []
theorem dksX4_roundCount_0 : cX4_roundCount.data.toList.drop 0 = dktX4_roundCount_0 := by decide +kernel
theorem dX4_roundCount_0 : decode cX4_roundCount 0 = .ok (.aload_n 0, 1) := dk_42 (dk_at dksX4_roundCount_0 0 rfl rfl)
theorem dX4_roundCount_1 : decode cX4_roundCount 1 = .ok (.iconst 0, 1) := dk_3 (dk_at dksX4_roundCount_0 1 rfl rfl)
theorem dX4_roundCount_2 : decode cX4_roundCount 2 = .ok (.putfield 84, 3) := dk_181 0 84 (dk_at dksX4_roundCount_0 2 rfl rfl)
theorem dX4_roundCount_5 : decode cX4_roundCount 5 = .ok (.aload_n 0, 1) := dk_42 (dk_at dksX4_roundCount_0 5 rfl rfl)
theorem dX4_roundCount_6 : decode cX4_roundCount 6 = .ok (.invokevirtual 235, 3) := dk_182 0 235 (dk_at dksX4_roundCount_0 6 rfl rfl)
theorem dX4_roundCount_9 : decode cX4_roundCount 9 = .ok (.aload_n 0, 1) := dk_42 (dk_at dksX4_roundCount_0 9 rfl rfl)
theorem dX4_roundCount_10 : decode cX4_roundCount 10 = .ok (.getfield 219, 3) := dk_180 0 219 (dk_at dksX4_roundCount_0 10 rfl rfl)
theorem dX4_roundCount_13 : decode cX4_roundCount 13 = .ok (.ireturn, 1) := dk_172 (dk_at dksX4_roundCount_0 13 rfl rfl)
abbrev cX4_unifiedTargets : ByteArray := prog_21_method_77_code
def yX4_unifiedTargets : MethodName := ⟨RX4, "unifiedTargets", "(I)J"⟩
def dkwX4_unifiedTargets_1 : List UInt8 := [173]
abbrev dktX4_unifiedTargets_1 : List UInt8 := dkwX4_unifiedTargets_1 ++ []
def dkwX4_unifiedTargets_0 : List UInt8 := [27, 184, 0, 251, 154, 0, 10, 42, 4, 182, 0, 98, 133, 173, 42, 3, 181, 0, 84, 42, 27, 182, 1, 43]
abbrev dktX4_unifiedTargets_0 : List UInt8 := dkwX4_unifiedTargets_0 ++ dktX4_unifiedTargets_1
theorem dksX4_unifiedTargets_0 : cX4_unifiedTargets.data.toList.drop 0 = dktX4_unifiedTargets_0 := by decide +kernel
theorem dksX4_unifiedTargets_1 : cX4_unifiedTargets.data.toList.drop 24 = dktX4_unifiedTargets_1 := dk_seg dksX4_unifiedTargets_0 24 rfl rfl
theorem dX4_unifiedTargets_0 : decode cX4_unifiedTargets 0 = .ok (.iload_n 1, 1) := dk_27 (dk_at dksX4_unifiedTargets_0 0 rfl rfl)
theorem dX4_unifiedTargets_1 : decode cX4_unifiedTargets 1 = .ok (.invokestatic 251, 3) := dk_184 0 251 (dk_at dksX4_unifiedTargets_0 1 rfl rfl)
theorem dX4_unifiedTargets_4 : decode cX4_unifiedTargets 4 = .ok (.ifCond .ne 10, 3) := dk_154 0 10 (dk_at dksX4_unifiedTargets_0 4 rfl rfl)
theorem dX4_unifiedTargets_7 : decode cX4_unifiedTargets 7 = .ok (.aload_n 0, 1) := dk_42 (dk_at dksX4_unifiedTargets_0 7 rfl rfl)
theorem dX4_unifiedTargets_8 : decode cX4_unifiedTargets 8 = .ok (.iconst 1, 1) := dk_4 (dk_at dksX4_unifiedTargets_0 8 rfl rfl)
theorem dX4_unifiedTargets_9 : decode cX4_unifiedTargets 9 = .ok (.invokevirtual 98, 3) := dk_182 0 98 (dk_at dksX4_unifiedTargets_0 9 rfl rfl)
theorem dX4_unifiedTargets_12 : decode cX4_unifiedTargets 12 = .ok (.i2l, 1) := dk_133 (dk_at dksX4_unifiedTargets_0 12 rfl rfl)
theorem dX4_unifiedTargets_13 : decode cX4_unifiedTargets 13 = .ok (.lreturn, 1) := dk_173 (dk_at dksX4_unifiedTargets_0 13 rfl rfl)
theorem dX4_unifiedTargets_14 : decode cX4_unifiedTargets 14 = .ok (.aload_n 0, 1) := dk_42 (dk_at dksX4_unifiedTargets_0 14 rfl rfl)
theorem dX4_unifiedTargets_15 : decode cX4_unifiedTargets 15 = .ok (.iconst 0, 1) := dk_3 (dk_at dksX4_unifiedTargets_0 15 rfl rfl)
theorem dX4_unifiedTargets_16 : decode cX4_unifiedTargets 16 = .ok (.putfield 84, 3) := dk_181 0 84 (dk_at dksX4_unifiedTargets_0 16 rfl rfl)
theorem dX4_unifiedTargets_19 : decode cX4_unifiedTargets 19 = .ok (.aload_n 0, 1) := dk_42 (dk_at dksX4_unifiedTargets_0 19 rfl rfl)
theorem dX4_unifiedTargets_20 : decode cX4_unifiedTargets 20 = .ok (.iload_n 1, 1) := dk_27 (dk_at dksX4_unifiedTargets_0 20 rfl rfl)
theorem dX4_unifiedTargets_21 : decode cX4_unifiedTargets 21 = .ok (.invokevirtual 299, 3) := dk_182 1 43 (dk_at dksX4_unifiedTargets_0 21 rfl rfl)
theorem dX4_unifiedTargets_24 : decode cX4_unifiedTargets 24 = .ok (.lreturn, 1) := dk_173 (dk_at dksX4_unifiedTargets_1 0 rfl rfl)
abbrev cX4_unified : ByteArray := prog_21_method_76_code
def yX4_unified : MethodName := ⟨RX4, "unified", "(I)J"⟩
def dkwX4_unified_4 : List UInt8 := [66, 132, 5, 1, 167, 255, 213, 33, 173]
abbrev dktX4_unified_4 : List UInt8 := dkwX4_unified_4 ++ []
def dkwX4_unified_3 : List UInt8 := [96, 182, 1, 25, 28, 160, 0, 17, 20, 1, 14, 16, 20, 6, 21, 5, 104, 96, 121, 167, 0, 4, 9, 129]
abbrev dktX4_unified_3 : List UInt8 := dkwX4_unified_3 ++ dktX4_unified_4
def dkwX4_unified_2 : List UInt8 := [132, 5, 1, 167, 255, 225, 3, 54, 5, 21, 5, 42, 182, 0, 168, 162, 0, 40, 33, 42, 16, 20, 21, 5]
abbrev dktX4_unified_2 : List UInt8 := dkwX4_unified_2 ++ dktX4_unified_3
def dkwX4_unified_1 : List UInt8 := [162, 0, 30, 33, 42, 21, 5, 182, 1, 25, 28, 160, 0, 10, 10, 21, 5, 121, 167, 0, 4, 9, 129, 66]
abbrev dktX4_unified_1 : List UInt8 := dkwX4_unified_1 ++ dktX4_unified_2
def dkwX4_unified_0 : List UInt8 := [42, 182, 0, 235, 42, 42, 27, 182, 1, 34, 182, 1, 25, 61, 9, 66, 3, 54, 5, 21, 5, 16, 20]
abbrev dktX4_unified_0 : List UInt8 := dkwX4_unified_0 ++ dktX4_unified_1
theorem dksX4_unified_0 : cX4_unified.data.toList.drop 0 = dktX4_unified_0 := by decide +kernel
theorem dksX4_unified_1 : cX4_unified.data.toList.drop 23 = dktX4_unified_1 := dk_seg dksX4_unified_0 23 rfl rfl
theorem dksX4_unified_2 : cX4_unified.data.toList.drop 47 = dktX4_unified_2 := dk_seg dksX4_unified_1 24 rfl rfl
theorem dksX4_unified_3 : cX4_unified.data.toList.drop 71 = dktX4_unified_3 := dk_seg dksX4_unified_2 24 rfl rfl
theorem dksX4_unified_4 : cX4_unified.data.toList.drop 95 = dktX4_unified_4 := dk_seg dksX4_unified_3 24 rfl rfl
theorem dX4_unified_0 : decode cX4_unified 0 = .ok (.aload_n 0, 1) := dk_42 (dk_at dksX4_unified_0 0 rfl rfl)
theorem dX4_unified_1 : decode cX4_unified 1 = .ok (.invokevirtual 235, 3) := dk_182 0 235 (dk_at dksX4_unified_0 1 rfl rfl)
theorem dX4_unified_4 : decode cX4_unified 4 = .ok (.aload_n 0, 1) := dk_42 (dk_at dksX4_unified_0 4 rfl rfl)
theorem dX4_unified_5 : decode cX4_unified 5 = .ok (.aload_n 0, 1) := dk_42 (dk_at dksX4_unified_0 5 rfl rfl)
theorem dX4_unified_6 : decode cX4_unified 6 = .ok (.iload_n 1, 1) := dk_27 (dk_at dksX4_unified_0 6 rfl rfl)
theorem dX4_unified_7 : decode cX4_unified 7 = .ok (.invokevirtual 290, 3) := dk_182 1 34 (dk_at dksX4_unified_0 7 rfl rfl)
theorem dX4_unified_10 : decode cX4_unified 10 = .ok (.invokevirtual 281, 3) := dk_182 1 25 (dk_at dksX4_unified_0 10 rfl rfl)
theorem dX4_unified_13 : decode cX4_unified 13 = .ok (.istore_n 2, 1) := dk_61 (dk_at dksX4_unified_0 13 rfl rfl)
theorem dX4_unified_14 : decode cX4_unified 14 = .ok (.lconst 0, 1) := dk_9 (dk_at dksX4_unified_0 14 rfl rfl)
theorem dX4_unified_15 : decode cX4_unified 15 = .ok (.lstore_n 3, 1) := dk_66 (dk_at dksX4_unified_0 15 rfl rfl)
theorem dX4_unified_16 : decode cX4_unified 16 = .ok (.iconst 0, 1) := dk_3 (dk_at dksX4_unified_0 16 rfl rfl)
theorem dX4_unified_17 : decode cX4_unified 17 = .ok (.istore 5, 2) := dk_54 5 (dk_at dksX4_unified_0 17 rfl rfl)
theorem dX4_unified_19 : decode cX4_unified 19 = .ok (.iload 5, 2) := dk_21 5 (dk_at dksX4_unified_0 19 rfl rfl)
theorem dX4_unified_21 : decode cX4_unified 21 = .ok (.bipush 20, 2) := dk_16 20 (dk_at dksX4_unified_0 21 rfl rfl)
theorem dX4_unified_23 : decode cX4_unified 23 = .ok (.if_icmp .ge 30, 3) := dk_162 0 30 (dk_at dksX4_unified_1 0 rfl rfl)
theorem dX4_unified_26 : decode cX4_unified 26 = .ok (.lload_n 3, 1) := dk_33 (dk_at dksX4_unified_1 3 rfl rfl)
theorem dX4_unified_27 : decode cX4_unified 27 = .ok (.aload_n 0, 1) := dk_42 (dk_at dksX4_unified_1 4 rfl rfl)
theorem dX4_unified_28 : decode cX4_unified 28 = .ok (.iload 5, 2) := dk_21 5 (dk_at dksX4_unified_1 5 rfl rfl)
theorem dX4_unified_30 : decode cX4_unified 30 = .ok (.invokevirtual 281, 3) := dk_182 1 25 (dk_at dksX4_unified_1 7 rfl rfl)
theorem dX4_unified_33 : decode cX4_unified 33 = .ok (.iload_n 2, 1) := dk_28 (dk_at dksX4_unified_1 10 rfl rfl)
theorem dX4_unified_34 : decode cX4_unified 34 = .ok (.if_icmp .ne 10, 3) := dk_160 0 10 (dk_at dksX4_unified_1 11 rfl rfl)
theorem dX4_unified_37 : decode cX4_unified 37 = .ok (.lconst 1, 1) := dk_10 (dk_at dksX4_unified_1 14 rfl rfl)
theorem dX4_unified_38 : decode cX4_unified 38 = .ok (.iload 5, 2) := dk_21 5 (dk_at dksX4_unified_1 15 rfl rfl)
theorem dX4_unified_40 : decode cX4_unified 40 = .ok (.lshl, 1) := dk_121 (dk_at dksX4_unified_1 17 rfl rfl)
theorem dX4_unified_41 : decode cX4_unified 41 = .ok (.goto 4, 3) := dk_167 0 4 (dk_at dksX4_unified_1 18 rfl rfl)
theorem dX4_unified_44 : decode cX4_unified 44 = .ok (.lconst 0, 1) := dk_9 (dk_at dksX4_unified_1 21 rfl rfl)
theorem dX4_unified_45 : decode cX4_unified 45 = .ok (.lor, 1) := dk_129 (dk_at dksX4_unified_1 22 rfl rfl)
theorem dX4_unified_46 : decode cX4_unified 46 = .ok (.lstore_n 3, 1) := dk_66 (dk_at dksX4_unified_1 23 rfl rfl)
theorem dX4_unified_47 : decode cX4_unified 47 = .ok (.iinc 5 1, 3) := dk_132 5 1 (dk_at dksX4_unified_2 0 rfl rfl)
theorem dX4_unified_50 : decode cX4_unified 50 = .ok (.goto (-31), 3) := dk_167 255 225 (dk_at dksX4_unified_2 3 rfl rfl)
theorem dX4_unified_53 : decode cX4_unified 53 = .ok (.iconst 0, 1) := dk_3 (dk_at dksX4_unified_2 6 rfl rfl)
theorem dX4_unified_54 : decode cX4_unified 54 = .ok (.istore 5, 2) := dk_54 5 (dk_at dksX4_unified_2 7 rfl rfl)
theorem dX4_unified_56 : decode cX4_unified 56 = .ok (.iload 5, 2) := dk_21 5 (dk_at dksX4_unified_2 9 rfl rfl)
theorem dX4_unified_58 : decode cX4_unified 58 = .ok (.aload_n 0, 1) := dk_42 (dk_at dksX4_unified_2 11 rfl rfl)
theorem dX4_unified_59 : decode cX4_unified 59 = .ok (.invokevirtual 168, 3) := dk_182 0 168 (dk_at dksX4_unified_2 12 rfl rfl)
theorem dX4_unified_62 : decode cX4_unified 62 = .ok (.if_icmp .ge 40, 3) := dk_162 0 40 (dk_at dksX4_unified_2 15 rfl rfl)
theorem dX4_unified_65 : decode cX4_unified 65 = .ok (.lload_n 3, 1) := dk_33 (dk_at dksX4_unified_2 18 rfl rfl)
theorem dX4_unified_66 : decode cX4_unified 66 = .ok (.aload_n 0, 1) := dk_42 (dk_at dksX4_unified_2 19 rfl rfl)
theorem dX4_unified_67 : decode cX4_unified 67 = .ok (.bipush 20, 2) := dk_16 20 (dk_at dksX4_unified_2 20 rfl rfl)
theorem dX4_unified_69 : decode cX4_unified 69 = .ok (.iload 5, 2) := dk_21 5 (dk_at dksX4_unified_2 22 rfl rfl)
theorem dX4_unified_71 : decode cX4_unified 71 = .ok (.iadd, 1) := dk_96 (dk_at dksX4_unified_3 0 rfl rfl)
theorem dX4_unified_72 : decode cX4_unified 72 = .ok (.invokevirtual 281, 3) := dk_182 1 25 (dk_at dksX4_unified_3 1 rfl rfl)
theorem dX4_unified_75 : decode cX4_unified 75 = .ok (.iload_n 2, 1) := dk_28 (dk_at dksX4_unified_3 4 rfl rfl)
theorem dX4_unified_76 : decode cX4_unified 76 = .ok (.if_icmp .ne 17, 3) := dk_160 0 17 (dk_at dksX4_unified_3 5 rfl rfl)
theorem dX4_unified_79 : decode cX4_unified 79 = .ok (.ldc2_w 270, 3) := dk_20 1 14 (dk_at dksX4_unified_3 8 rfl rfl)
theorem dX4_unified_82 : decode cX4_unified 82 = .ok (.bipush 20, 2) := dk_16 20 (dk_at dksX4_unified_3 11 rfl rfl)
theorem dX4_unified_84 : decode cX4_unified 84 = .ok (.iconst 3, 1) := dk_6 (dk_at dksX4_unified_3 13 rfl rfl)
theorem dX4_unified_85 : decode cX4_unified 85 = .ok (.iload 5, 2) := dk_21 5 (dk_at dksX4_unified_3 14 rfl rfl)
theorem dX4_unified_87 : decode cX4_unified 87 = .ok (.imul, 1) := dk_104 (dk_at dksX4_unified_3 16 rfl rfl)
theorem dX4_unified_88 : decode cX4_unified 88 = .ok (.iadd, 1) := dk_96 (dk_at dksX4_unified_3 17 rfl rfl)
theorem dX4_unified_89 : decode cX4_unified 89 = .ok (.lshl, 1) := dk_121 (dk_at dksX4_unified_3 18 rfl rfl)
theorem dX4_unified_90 : decode cX4_unified 90 = .ok (.goto 4, 3) := dk_167 0 4 (dk_at dksX4_unified_3 19 rfl rfl)
theorem dX4_unified_93 : decode cX4_unified 93 = .ok (.lconst 0, 1) := dk_9 (dk_at dksX4_unified_3 22 rfl rfl)
theorem dX4_unified_94 : decode cX4_unified 94 = .ok (.lor, 1) := dk_129 (dk_at dksX4_unified_3 23 rfl rfl)
theorem dX4_unified_95 : decode cX4_unified 95 = .ok (.lstore_n 3, 1) := dk_66 (dk_at dksX4_unified_4 0 rfl rfl)
theorem dX4_unified_96 : decode cX4_unified 96 = .ok (.iinc 5 1, 3) := dk_132 5 1 (dk_at dksX4_unified_4 1 rfl rfl)
theorem dX4_unified_99 : decode cX4_unified 99 = .ok (.goto (-43), 3) := dk_167 255 213 (dk_at dksX4_unified_4 4 rfl rfl)
theorem dX4_unified_102 : decode cX4_unified 102 = .ok (.lload_n 3, 1) := dk_33 (dk_at dksX4_unified_4 7 rfl rfl)
theorem dX4_unified_103 : decode cX4_unified 103 = .ok (.lreturn, 1) := dk_173 (dk_at dksX4_unified_4 8 rfl rfl)
abbrev cX4_areUnified : ByteArray := prog_21_method_78_code
def yX4_areUnified : MethodName := ⟨RX4, "areUnified", "(II)Z"⟩
def dkwX4_areUnified_2 : List UInt8 := [3, 172]
abbrev dktX4_areUnified_2 : List UInt8 := dkwX4_areUnified_2 ++ []
def dkwX4_areUnified_1 : List UInt8 := [181, 0, 84, 42, 182, 0, 235, 42, 27, 182, 1, 25, 42, 28, 182, 1, 25, 160, 0, 7, 4, 167, 0, 4]
abbrev dktX4_areUnified_1 : List UInt8 := dkwX4_areUnified_1 ++ dktX4_areUnified_2
def dkwX4_areUnified_0 : List UInt8 := [27, 184, 0, 251, 153, 0, 10, 28, 184, 0, 251, 154, 0, 9, 42, 4, 182, 1, 8, 172, 42, 3]
abbrev dktX4_areUnified_0 : List UInt8 := dkwX4_areUnified_0 ++ dktX4_areUnified_1
theorem dksX4_areUnified_0 : cX4_areUnified.data.toList.drop 0 = dktX4_areUnified_0 := by decide +kernel
theorem dksX4_areUnified_1 : cX4_areUnified.data.toList.drop 22 = dktX4_areUnified_1 := dk_seg dksX4_areUnified_0 22 rfl rfl
theorem dksX4_areUnified_2 : cX4_areUnified.data.toList.drop 46 = dktX4_areUnified_2 := dk_seg dksX4_areUnified_1 24 rfl rfl
theorem dX4_areUnified_0 : decode cX4_areUnified 0 = .ok (.iload_n 1, 1) := dk_27 (dk_at dksX4_areUnified_0 0 rfl rfl)
theorem dX4_areUnified_1 : decode cX4_areUnified 1 = .ok (.invokestatic 251, 3) := dk_184 0 251 (dk_at dksX4_areUnified_0 1 rfl rfl)
theorem dX4_areUnified_4 : decode cX4_areUnified 4 = .ok (.ifCond .eq 10, 3) := dk_153 0 10 (dk_at dksX4_areUnified_0 4 rfl rfl)
theorem dX4_areUnified_7 : decode cX4_areUnified 7 = .ok (.iload_n 2, 1) := dk_28 (dk_at dksX4_areUnified_0 7 rfl rfl)
theorem dX4_areUnified_8 : decode cX4_areUnified 8 = .ok (.invokestatic 251, 3) := dk_184 0 251 (dk_at dksX4_areUnified_0 8 rfl rfl)
theorem dX4_areUnified_11 : decode cX4_areUnified 11 = .ok (.ifCond .ne 9, 3) := dk_154 0 9 (dk_at dksX4_areUnified_0 11 rfl rfl)
theorem dX4_areUnified_14 : decode cX4_areUnified 14 = .ok (.aload_n 0, 1) := dk_42 (dk_at dksX4_areUnified_0 14 rfl rfl)
theorem dX4_areUnified_15 : decode cX4_areUnified 15 = .ok (.iconst 1, 1) := dk_4 (dk_at dksX4_areUnified_0 15 rfl rfl)
theorem dX4_areUnified_16 : decode cX4_areUnified 16 = .ok (.invokevirtual 264, 3) := dk_182 1 8 (dk_at dksX4_areUnified_0 16 rfl rfl)
theorem dX4_areUnified_19 : decode cX4_areUnified 19 = .ok (.ireturn, 1) := dk_172 (dk_at dksX4_areUnified_0 19 rfl rfl)
theorem dX4_areUnified_20 : decode cX4_areUnified 20 = .ok (.aload_n 0, 1) := dk_42 (dk_at dksX4_areUnified_0 20 rfl rfl)
theorem dX4_areUnified_21 : decode cX4_areUnified 21 = .ok (.iconst 0, 1) := dk_3 (dk_at dksX4_areUnified_0 21 rfl rfl)
theorem dX4_areUnified_22 : decode cX4_areUnified 22 = .ok (.putfield 84, 3) := dk_181 0 84 (dk_at dksX4_areUnified_1 0 rfl rfl)
theorem dX4_areUnified_25 : decode cX4_areUnified 25 = .ok (.aload_n 0, 1) := dk_42 (dk_at dksX4_areUnified_1 3 rfl rfl)
theorem dX4_areUnified_26 : decode cX4_areUnified 26 = .ok (.invokevirtual 235, 3) := dk_182 0 235 (dk_at dksX4_areUnified_1 4 rfl rfl)
theorem dX4_areUnified_29 : decode cX4_areUnified 29 = .ok (.aload_n 0, 1) := dk_42 (dk_at dksX4_areUnified_1 7 rfl rfl)
theorem dX4_areUnified_30 : decode cX4_areUnified 30 = .ok (.iload_n 1, 1) := dk_27 (dk_at dksX4_areUnified_1 8 rfl rfl)
theorem dX4_areUnified_31 : decode cX4_areUnified 31 = .ok (.invokevirtual 281, 3) := dk_182 1 25 (dk_at dksX4_areUnified_1 9 rfl rfl)
theorem dX4_areUnified_34 : decode cX4_areUnified 34 = .ok (.aload_n 0, 1) := dk_42 (dk_at dksX4_areUnified_1 12 rfl rfl)
theorem dX4_areUnified_35 : decode cX4_areUnified 35 = .ok (.iload_n 2, 1) := dk_28 (dk_at dksX4_areUnified_1 13 rfl rfl)
theorem dX4_areUnified_36 : decode cX4_areUnified 36 = .ok (.invokevirtual 281, 3) := dk_182 1 25 (dk_at dksX4_areUnified_1 14 rfl rfl)
theorem dX4_areUnified_39 : decode cX4_areUnified 39 = .ok (.if_icmp .ne 7, 3) := dk_160 0 7 (dk_at dksX4_areUnified_1 17 rfl rfl)
theorem dX4_areUnified_42 : decode cX4_areUnified 42 = .ok (.iconst 1, 1) := dk_4 (dk_at dksX4_areUnified_1 20 rfl rfl)
theorem dX4_areUnified_43 : decode cX4_areUnified 43 = .ok (.goto 4, 3) := dk_167 0 4 (dk_at dksX4_areUnified_1 21 rfl rfl)
theorem dX4_areUnified_46 : decode cX4_areUnified 46 = .ok (.iconst 0, 1) := dk_3 (dk_at dksX4_areUnified_2 0 rfl rfl)
theorem dX4_areUnified_47 : decode cX4_areUnified 47 = .ok (.ireturn, 1) := dk_172 (dk_at dksX4_areUnified_2 1 rfl rfl)
abbrev cX4_unifiedClasses : ByteArray := prog_21_method_79_code
def yX4_unifiedClasses : MethodName := ⟨RX4, "unifiedClasses", "()I"⟩
def dkwX4_unifiedClasses_3 : List UInt8 := [167, 0, 4, 3, 96, 60, 132, 2, 1, 167, 255, 189, 27, 172]
abbrev dktX4_unifiedClasses_3 : List UInt8 := dkwX4_unifiedClasses_3 ++ []
def dkwX4_unifiedClasses_2 : List UInt8 := [182, 1, 25, 159, 0, 7, 4, 167, 0, 4, 3, 62, 132, 4, 1, 167, 255, 223, 27, 29, 153, 0, 7, 4]
abbrev dktX4_unifiedClasses_2 : List UInt8 := dkwX4_unifiedClasses_2 ++ dktX4_unifiedClasses_3
def dkwX4_unifiedClasses_1 : List UInt8 := [4, 62, 3, 54, 4, 21, 4, 28, 162, 0, 33, 29, 153, 0, 21, 42, 21, 4, 182, 1, 25, 42, 28]
abbrev dktX4_unifiedClasses_1 : List UInt8 := dkwX4_unifiedClasses_1 ++ dktX4_unifiedClasses_2
def dkwX4_unifiedClasses_0 : List UInt8 := [42, 3, 181, 0, 84, 42, 182, 0, 235, 3, 60, 3, 61, 28, 16, 20, 42, 182, 0, 168, 96, 162, 0, 62]
abbrev dktX4_unifiedClasses_0 : List UInt8 := dkwX4_unifiedClasses_0 ++ dktX4_unifiedClasses_1
theorem dksX4_unifiedClasses_0 : cX4_unifiedClasses.data.toList.drop 0 = dktX4_unifiedClasses_0 := by decide +kernel
theorem dksX4_unifiedClasses_1 : cX4_unifiedClasses.data.toList.drop 24 = dktX4_unifiedClasses_1 := dk_seg dksX4_unifiedClasses_0 24 rfl rfl
theorem dksX4_unifiedClasses_2 : cX4_unifiedClasses.data.toList.drop 47 = dktX4_unifiedClasses_2 := dk_seg dksX4_unifiedClasses_1 23 rfl rfl
theorem dksX4_unifiedClasses_3 : cX4_unifiedClasses.data.toList.drop 71 = dktX4_unifiedClasses_3 := dk_seg dksX4_unifiedClasses_2 24 rfl rfl
theorem dX4_unifiedClasses_0 : decode cX4_unifiedClasses 0 = .ok (.aload_n 0, 1) := dk_42 (dk_at dksX4_unifiedClasses_0 0 rfl rfl)
theorem dX4_unifiedClasses_1 : decode cX4_unifiedClasses 1 = .ok (.iconst 0, 1) := dk_3 (dk_at dksX4_unifiedClasses_0 1 rfl rfl)
theorem dX4_unifiedClasses_2 : decode cX4_unifiedClasses 2 = .ok (.putfield 84, 3) := dk_181 0 84 (dk_at dksX4_unifiedClasses_0 2 rfl rfl)
theorem dX4_unifiedClasses_5 : decode cX4_unifiedClasses 5 = .ok (.aload_n 0, 1) := dk_42 (dk_at dksX4_unifiedClasses_0 5 rfl rfl)
theorem dX4_unifiedClasses_6 : decode cX4_unifiedClasses 6 = .ok (.invokevirtual 235, 3) := dk_182 0 235 (dk_at dksX4_unifiedClasses_0 6 rfl rfl)
theorem dX4_unifiedClasses_9 : decode cX4_unifiedClasses 9 = .ok (.iconst 0, 1) := dk_3 (dk_at dksX4_unifiedClasses_0 9 rfl rfl)
theorem dX4_unifiedClasses_10 : decode cX4_unifiedClasses 10 = .ok (.istore_n 1, 1) := dk_60 (dk_at dksX4_unifiedClasses_0 10 rfl rfl)
theorem dX4_unifiedClasses_11 : decode cX4_unifiedClasses 11 = .ok (.iconst 0, 1) := dk_3 (dk_at dksX4_unifiedClasses_0 11 rfl rfl)
theorem dX4_unifiedClasses_12 : decode cX4_unifiedClasses 12 = .ok (.istore_n 2, 1) := dk_61 (dk_at dksX4_unifiedClasses_0 12 rfl rfl)
theorem dX4_unifiedClasses_13 : decode cX4_unifiedClasses 13 = .ok (.iload_n 2, 1) := dk_28 (dk_at dksX4_unifiedClasses_0 13 rfl rfl)
theorem dX4_unifiedClasses_14 : decode cX4_unifiedClasses 14 = .ok (.bipush 20, 2) := dk_16 20 (dk_at dksX4_unifiedClasses_0 14 rfl rfl)
theorem dX4_unifiedClasses_16 : decode cX4_unifiedClasses 16 = .ok (.aload_n 0, 1) := dk_42 (dk_at dksX4_unifiedClasses_0 16 rfl rfl)
theorem dX4_unifiedClasses_17 : decode cX4_unifiedClasses 17 = .ok (.invokevirtual 168, 3) := dk_182 0 168 (dk_at dksX4_unifiedClasses_0 17 rfl rfl)
theorem dX4_unifiedClasses_20 : decode cX4_unifiedClasses 20 = .ok (.iadd, 1) := dk_96 (dk_at dksX4_unifiedClasses_0 20 rfl rfl)
theorem dX4_unifiedClasses_21 : decode cX4_unifiedClasses 21 = .ok (.if_icmp .ge 62, 3) := dk_162 0 62 (dk_at dksX4_unifiedClasses_0 21 rfl rfl)
theorem dX4_unifiedClasses_24 : decode cX4_unifiedClasses 24 = .ok (.iconst 1, 1) := dk_4 (dk_at dksX4_unifiedClasses_1 0 rfl rfl)
theorem dX4_unifiedClasses_25 : decode cX4_unifiedClasses 25 = .ok (.istore_n 3, 1) := dk_62 (dk_at dksX4_unifiedClasses_1 1 rfl rfl)
theorem dX4_unifiedClasses_26 : decode cX4_unifiedClasses 26 = .ok (.iconst 0, 1) := dk_3 (dk_at dksX4_unifiedClasses_1 2 rfl rfl)
theorem dX4_unifiedClasses_27 : decode cX4_unifiedClasses 27 = .ok (.istore 4, 2) := dk_54 4 (dk_at dksX4_unifiedClasses_1 3 rfl rfl)
theorem dX4_unifiedClasses_29 : decode cX4_unifiedClasses 29 = .ok (.iload 4, 2) := dk_21 4 (dk_at dksX4_unifiedClasses_1 5 rfl rfl)
theorem dX4_unifiedClasses_31 : decode cX4_unifiedClasses 31 = .ok (.iload_n 2, 1) := dk_28 (dk_at dksX4_unifiedClasses_1 7 rfl rfl)
theorem dX4_unifiedClasses_32 : decode cX4_unifiedClasses 32 = .ok (.if_icmp .ge 33, 3) := dk_162 0 33 (dk_at dksX4_unifiedClasses_1 8 rfl rfl)
theorem dX4_unifiedClasses_35 : decode cX4_unifiedClasses 35 = .ok (.iload_n 3, 1) := dk_29 (dk_at dksX4_unifiedClasses_1 11 rfl rfl)
theorem dX4_unifiedClasses_36 : decode cX4_unifiedClasses 36 = .ok (.ifCond .eq 21, 3) := dk_153 0 21 (dk_at dksX4_unifiedClasses_1 12 rfl rfl)
theorem dX4_unifiedClasses_39 : decode cX4_unifiedClasses 39 = .ok (.aload_n 0, 1) := dk_42 (dk_at dksX4_unifiedClasses_1 15 rfl rfl)
theorem dX4_unifiedClasses_40 : decode cX4_unifiedClasses 40 = .ok (.iload 4, 2) := dk_21 4 (dk_at dksX4_unifiedClasses_1 16 rfl rfl)
theorem dX4_unifiedClasses_42 : decode cX4_unifiedClasses 42 = .ok (.invokevirtual 281, 3) := dk_182 1 25 (dk_at dksX4_unifiedClasses_1 18 rfl rfl)
theorem dX4_unifiedClasses_45 : decode cX4_unifiedClasses 45 = .ok (.aload_n 0, 1) := dk_42 (dk_at dksX4_unifiedClasses_1 21 rfl rfl)
theorem dX4_unifiedClasses_46 : decode cX4_unifiedClasses 46 = .ok (.iload_n 2, 1) := dk_28 (dk_at dksX4_unifiedClasses_1 22 rfl rfl)
theorem dX4_unifiedClasses_47 : decode cX4_unifiedClasses 47 = .ok (.invokevirtual 281, 3) := dk_182 1 25 (dk_at dksX4_unifiedClasses_2 0 rfl rfl)
theorem dX4_unifiedClasses_50 : decode cX4_unifiedClasses 50 = .ok (.if_icmp .eq 7, 3) := dk_159 0 7 (dk_at dksX4_unifiedClasses_2 3 rfl rfl)
theorem dX4_unifiedClasses_53 : decode cX4_unifiedClasses 53 = .ok (.iconst 1, 1) := dk_4 (dk_at dksX4_unifiedClasses_2 6 rfl rfl)
theorem dX4_unifiedClasses_54 : decode cX4_unifiedClasses 54 = .ok (.goto 4, 3) := dk_167 0 4 (dk_at dksX4_unifiedClasses_2 7 rfl rfl)
theorem dX4_unifiedClasses_57 : decode cX4_unifiedClasses 57 = .ok (.iconst 0, 1) := dk_3 (dk_at dksX4_unifiedClasses_2 10 rfl rfl)
theorem dX4_unifiedClasses_58 : decode cX4_unifiedClasses 58 = .ok (.istore_n 3, 1) := dk_62 (dk_at dksX4_unifiedClasses_2 11 rfl rfl)
theorem dX4_unifiedClasses_59 : decode cX4_unifiedClasses 59 = .ok (.iinc 4 1, 3) := dk_132 4 1 (dk_at dksX4_unifiedClasses_2 12 rfl rfl)
theorem dX4_unifiedClasses_62 : decode cX4_unifiedClasses 62 = .ok (.goto (-33), 3) := dk_167 255 223 (dk_at dksX4_unifiedClasses_2 15 rfl rfl)
theorem dX4_unifiedClasses_65 : decode cX4_unifiedClasses 65 = .ok (.iload_n 1, 1) := dk_27 (dk_at dksX4_unifiedClasses_2 18 rfl rfl)
theorem dX4_unifiedClasses_66 : decode cX4_unifiedClasses 66 = .ok (.iload_n 3, 1) := dk_29 (dk_at dksX4_unifiedClasses_2 19 rfl rfl)
theorem dX4_unifiedClasses_67 : decode cX4_unifiedClasses 67 = .ok (.ifCond .eq 7, 3) := dk_153 0 7 (dk_at dksX4_unifiedClasses_2 20 rfl rfl)
theorem dX4_unifiedClasses_70 : decode cX4_unifiedClasses 70 = .ok (.iconst 1, 1) := dk_4 (dk_at dksX4_unifiedClasses_2 23 rfl rfl)
theorem dX4_unifiedClasses_71 : decode cX4_unifiedClasses 71 = .ok (.goto 4, 3) := dk_167 0 4 (dk_at dksX4_unifiedClasses_3 0 rfl rfl)
theorem dX4_unifiedClasses_74 : decode cX4_unifiedClasses 74 = .ok (.iconst 0, 1) := dk_3 (dk_at dksX4_unifiedClasses_3 3 rfl rfl)
theorem dX4_unifiedClasses_75 : decode cX4_unifiedClasses 75 = .ok (.iadd, 1) := dk_96 (dk_at dksX4_unifiedClasses_3 4 rfl rfl)
theorem dX4_unifiedClasses_76 : decode cX4_unifiedClasses 76 = .ok (.istore_n 1, 1) := dk_60 (dk_at dksX4_unifiedClasses_3 5 rfl rfl)
theorem dX4_unifiedClasses_77 : decode cX4_unifiedClasses 77 = .ok (.iinc 2 1, 3) := dk_132 2 1 (dk_at dksX4_unifiedClasses_3 6 rfl rfl)
theorem dX4_unifiedClasses_80 : decode cX4_unifiedClasses 80 = .ok (.goto (-67), 3) := dk_167 255 189 (dk_at dksX4_unifiedClasses_3 9 rfl rfl)
theorem dX4_unifiedClasses_83 : decode cX4_unifiedClasses 83 = .ok (.iload_n 1, 1) := dk_27 (dk_at dksX4_unifiedClasses_3 12 rfl rfl)
theorem dX4_unifiedClasses_84 : decode cX4_unifiedClasses 84 = .ok (.ireturn, 1) := dk_172 (dk_at dksX4_unifiedClasses_3 13 rfl rfl)
abbrev cX4_modifies : ByteArray := prog_21_method_81_code
def yX4_modifies : MethodName := ⟨RX4, "modifies", "(I)J"⟩
def dkwX4_modifies_4 : List UInt8 := [167, 255, 198, 33, 173]
abbrev dktX4_modifies_4 : List UInt8 := dkwX4_modifies_4 ++ []
def dkwX4_modifies_3 : List UInt8 := [126, 4, 160, 0, 17, 33, 42, 42, 180, 0, 13, 21, 6, 46, 182, 0, 254, 129, 66, 132, 5, 1]
abbrev dktX4_modifies_3 : List UInt8 := dkwX4_modifies_3 ++ dktX4_modifies_4
def dkwX4_modifies_2 : List UInt8 := [182, 0, 91, 54, 6, 42, 180, 0, 7, 21, 6, 46, 6, 160, 0, 30, 28, 21, 6, 16, 12, 108, 122, 4]
abbrev dktX4_modifies_2 : List UInt8 := dkwX4_modifies_2 ++ dktX4_modifies_3
def dkwX4_modifies_1 : List UInt8 := [4, 27, 120, 128, 61, 9, 66, 3, 54, 5, 21, 5, 42, 182, 0, 162, 162, 0, 55, 42, 21, 5]
abbrev dktX4_modifies_1 : List UInt8 := dkwX4_modifies_1 ++ dktX4_modifies_2
def dkwX4_modifies_0 : List UInt8 := [27, 184, 0, 141, 154, 0, 10, 42, 4, 182, 0, 98, 133, 173, 42, 3, 181, 0, 84, 42, 27, 182, 1, 46]
abbrev dktX4_modifies_0 : List UInt8 := dkwX4_modifies_0 ++ dktX4_modifies_1
theorem dksX4_modifies_0 : cX4_modifies.data.toList.drop 0 = dktX4_modifies_0 := by decide +kernel
theorem dksX4_modifies_1 : cX4_modifies.data.toList.drop 24 = dktX4_modifies_1 := dk_seg dksX4_modifies_0 24 rfl rfl
theorem dksX4_modifies_2 : cX4_modifies.data.toList.drop 46 = dktX4_modifies_2 := dk_seg dksX4_modifies_1 22 rfl rfl
theorem dksX4_modifies_3 : cX4_modifies.data.toList.drop 70 = dktX4_modifies_3 := dk_seg dksX4_modifies_2 24 rfl rfl
theorem dksX4_modifies_4 : cX4_modifies.data.toList.drop 92 = dktX4_modifies_4 := dk_seg dksX4_modifies_3 22 rfl rfl
theorem dX4_modifies_0 : decode cX4_modifies 0 = .ok (.iload_n 1, 1) := dk_27 (dk_at dksX4_modifies_0 0 rfl rfl)
theorem dX4_modifies_1 : decode cX4_modifies 1 = .ok (.invokestatic 141, 3) := dk_184 0 141 (dk_at dksX4_modifies_0 1 rfl rfl)
theorem dX4_modifies_4 : decode cX4_modifies 4 = .ok (.ifCond .ne 10, 3) := dk_154 0 10 (dk_at dksX4_modifies_0 4 rfl rfl)
theorem dX4_modifies_7 : decode cX4_modifies 7 = .ok (.aload_n 0, 1) := dk_42 (dk_at dksX4_modifies_0 7 rfl rfl)
theorem dX4_modifies_8 : decode cX4_modifies 8 = .ok (.iconst 1, 1) := dk_4 (dk_at dksX4_modifies_0 8 rfl rfl)
theorem dX4_modifies_9 : decode cX4_modifies 9 = .ok (.invokevirtual 98, 3) := dk_182 0 98 (dk_at dksX4_modifies_0 9 rfl rfl)
theorem dX4_modifies_12 : decode cX4_modifies 12 = .ok (.i2l, 1) := dk_133 (dk_at dksX4_modifies_0 12 rfl rfl)
theorem dX4_modifies_13 : decode cX4_modifies 13 = .ok (.lreturn, 1) := dk_173 (dk_at dksX4_modifies_0 13 rfl rfl)
theorem dX4_modifies_14 : decode cX4_modifies 14 = .ok (.aload_n 0, 1) := dk_42 (dk_at dksX4_modifies_0 14 rfl rfl)
theorem dX4_modifies_15 : decode cX4_modifies 15 = .ok (.iconst 0, 1) := dk_3 (dk_at dksX4_modifies_0 15 rfl rfl)
theorem dX4_modifies_16 : decode cX4_modifies 16 = .ok (.putfield 84, 3) := dk_181 0 84 (dk_at dksX4_modifies_0 16 rfl rfl)
theorem dX4_modifies_19 : decode cX4_modifies 19 = .ok (.aload_n 0, 1) := dk_42 (dk_at dksX4_modifies_0 19 rfl rfl)
theorem dX4_modifies_20 : decode cX4_modifies 20 = .ok (.iload_n 1, 1) := dk_27 (dk_at dksX4_modifies_0 20 rfl rfl)
theorem dX4_modifies_21 : decode cX4_modifies 21 = .ok (.invokevirtual 302, 3) := dk_182 1 46 (dk_at dksX4_modifies_0 21 rfl rfl)
theorem dX4_modifies_24 : decode cX4_modifies 24 = .ok (.iconst 1, 1) := dk_4 (dk_at dksX4_modifies_1 0 rfl rfl)
theorem dX4_modifies_25 : decode cX4_modifies 25 = .ok (.iload_n 1, 1) := dk_27 (dk_at dksX4_modifies_1 1 rfl rfl)
theorem dX4_modifies_26 : decode cX4_modifies 26 = .ok (.ishl, 1) := dk_120 (dk_at dksX4_modifies_1 2 rfl rfl)
theorem dX4_modifies_27 : decode cX4_modifies 27 = .ok (.ior, 1) := dk_128 (dk_at dksX4_modifies_1 3 rfl rfl)
theorem dX4_modifies_28 : decode cX4_modifies 28 = .ok (.istore_n 2, 1) := dk_61 (dk_at dksX4_modifies_1 4 rfl rfl)
theorem dX4_modifies_29 : decode cX4_modifies 29 = .ok (.lconst 0, 1) := dk_9 (dk_at dksX4_modifies_1 5 rfl rfl)
theorem dX4_modifies_30 : decode cX4_modifies 30 = .ok (.lstore_n 3, 1) := dk_66 (dk_at dksX4_modifies_1 6 rfl rfl)
theorem dX4_modifies_31 : decode cX4_modifies 31 = .ok (.iconst 0, 1) := dk_3 (dk_at dksX4_modifies_1 7 rfl rfl)
theorem dX4_modifies_32 : decode cX4_modifies 32 = .ok (.istore 5, 2) := dk_54 5 (dk_at dksX4_modifies_1 8 rfl rfl)
theorem dX4_modifies_34 : decode cX4_modifies 34 = .ok (.iload 5, 2) := dk_21 5 (dk_at dksX4_modifies_1 10 rfl rfl)
theorem dX4_modifies_36 : decode cX4_modifies 36 = .ok (.aload_n 0, 1) := dk_42 (dk_at dksX4_modifies_1 12 rfl rfl)
theorem dX4_modifies_37 : decode cX4_modifies 37 = .ok (.invokevirtual 162, 3) := dk_182 0 162 (dk_at dksX4_modifies_1 13 rfl rfl)
theorem dX4_modifies_40 : decode cX4_modifies 40 = .ok (.if_icmp .ge 55, 3) := dk_162 0 55 (dk_at dksX4_modifies_1 16 rfl rfl)
theorem dX4_modifies_43 : decode cX4_modifies 43 = .ok (.aload_n 0, 1) := dk_42 (dk_at dksX4_modifies_1 19 rfl rfl)
theorem dX4_modifies_44 : decode cX4_modifies 44 = .ok (.iload 5, 2) := dk_21 5 (dk_at dksX4_modifies_1 20 rfl rfl)
theorem dX4_modifies_46 : decode cX4_modifies 46 = .ok (.invokevirtual 91, 3) := dk_182 0 91 (dk_at dksX4_modifies_2 0 rfl rfl)
theorem dX4_modifies_49 : decode cX4_modifies 49 = .ok (.istore 6, 2) := dk_54 6 (dk_at dksX4_modifies_2 3 rfl rfl)
theorem dX4_modifies_51 : decode cX4_modifies 51 = .ok (.aload_n 0, 1) := dk_42 (dk_at dksX4_modifies_2 5 rfl rfl)
theorem dX4_modifies_52 : decode cX4_modifies 52 = .ok (.getfield 7, 3) := dk_180 0 7 (dk_at dksX4_modifies_2 6 rfl rfl)
theorem dX4_modifies_55 : decode cX4_modifies 55 = .ok (.iload 6, 2) := dk_21 6 (dk_at dksX4_modifies_2 9 rfl rfl)
theorem dX4_modifies_57 : decode cX4_modifies 57 = .ok (.iaload, 1) := dk_46 (dk_at dksX4_modifies_2 11 rfl rfl)
theorem dX4_modifies_58 : decode cX4_modifies 58 = .ok (.iconst 3, 1) := dk_6 (dk_at dksX4_modifies_2 12 rfl rfl)
theorem dX4_modifies_59 : decode cX4_modifies 59 = .ok (.if_icmp .ne 30, 3) := dk_160 0 30 (dk_at dksX4_modifies_2 13 rfl rfl)
theorem dX4_modifies_62 : decode cX4_modifies 62 = .ok (.iload_n 2, 1) := dk_28 (dk_at dksX4_modifies_2 16 rfl rfl)
theorem dX4_modifies_63 : decode cX4_modifies 63 = .ok (.iload 6, 2) := dk_21 6 (dk_at dksX4_modifies_2 17 rfl rfl)
theorem dX4_modifies_65 : decode cX4_modifies 65 = .ok (.bipush 12, 2) := dk_16 12 (dk_at dksX4_modifies_2 19 rfl rfl)
theorem dX4_modifies_67 : decode cX4_modifies 67 = .ok (.idiv, 1) := dk_108 (dk_at dksX4_modifies_2 21 rfl rfl)
theorem dX4_modifies_68 : decode cX4_modifies 68 = .ok (.ishr, 1) := dk_122 (dk_at dksX4_modifies_2 22 rfl rfl)
theorem dX4_modifies_69 : decode cX4_modifies 69 = .ok (.iconst 1, 1) := dk_4 (dk_at dksX4_modifies_2 23 rfl rfl)
theorem dX4_modifies_70 : decode cX4_modifies 70 = .ok (.iand, 1) := dk_126 (dk_at dksX4_modifies_3 0 rfl rfl)
theorem dX4_modifies_71 : decode cX4_modifies 71 = .ok (.iconst 1, 1) := dk_4 (dk_at dksX4_modifies_3 1 rfl rfl)
theorem dX4_modifies_72 : decode cX4_modifies 72 = .ok (.if_icmp .ne 17, 3) := dk_160 0 17 (dk_at dksX4_modifies_3 2 rfl rfl)
theorem dX4_modifies_75 : decode cX4_modifies 75 = .ok (.lload_n 3, 1) := dk_33 (dk_at dksX4_modifies_3 5 rfl rfl)
theorem dX4_modifies_76 : decode cX4_modifies 76 = .ok (.aload_n 0, 1) := dk_42 (dk_at dksX4_modifies_3 6 rfl rfl)
theorem dX4_modifies_77 : decode cX4_modifies 77 = .ok (.aload_n 0, 1) := dk_42 (dk_at dksX4_modifies_3 7 rfl rfl)
theorem dX4_modifies_78 : decode cX4_modifies 78 = .ok (.getfield 13, 3) := dk_180 0 13 (dk_at dksX4_modifies_3 8 rfl rfl)
theorem dX4_modifies_81 : decode cX4_modifies 81 = .ok (.iload 6, 2) := dk_21 6 (dk_at dksX4_modifies_3 11 rfl rfl)
theorem dX4_modifies_83 : decode cX4_modifies 83 = .ok (.iaload, 1) := dk_46 (dk_at dksX4_modifies_3 13 rfl rfl)
theorem dX4_modifies_84 : decode cX4_modifies 84 = .ok (.invokevirtual 254, 3) := dk_182 0 254 (dk_at dksX4_modifies_3 14 rfl rfl)
theorem dX4_modifies_87 : decode cX4_modifies 87 = .ok (.lor, 1) := dk_129 (dk_at dksX4_modifies_3 17 rfl rfl)
theorem dX4_modifies_88 : decode cX4_modifies 88 = .ok (.lstore_n 3, 1) := dk_66 (dk_at dksX4_modifies_3 18 rfl rfl)
theorem dX4_modifies_89 : decode cX4_modifies 89 = .ok (.iinc 5 1, 3) := dk_132 5 1 (dk_at dksX4_modifies_3 19 rfl rfl)
theorem dX4_modifies_92 : decode cX4_modifies 92 = .ok (.goto (-58), 3) := dk_167 255 198 (dk_at dksX4_modifies_4 0 rfl rfl)
theorem dX4_modifies_95 : decode cX4_modifies 95 = .ok (.lload_n 3, 1) := dk_33 (dk_at dksX4_modifies_4 3 rfl rfl)
theorem dX4_modifies_96 : decode cX4_modifies 96 = .ok (.lreturn, 1) := dk_173 (dk_at dksX4_modifies_4 4 rfl rfl)
abbrev cX4_called : ByteArray := prog_21_method_80_code
def yX4_called : MethodName := ⟨RX4, "called", "(I)I"⟩
def dkwX4_called_4 : List UInt8 := [132, 4, 1, 167, 255, 174, 167, 255, 161, 28, 172]
abbrev dktX4_called_4 : List UInt8 := dkwX4_called_4 ++ []
def dkwX4_called_3 : List UInt8 := [42, 180, 0, 19, 16, 12, 21, 4, 104, 21, 5, 96, 46, 120, 128, 61, 132, 5, 1, 167, 255, 189]
abbrev dktX4_called_3 : List UInt8 := dkwX4_called_3 ++ dktX4_called_4
def dkwX4_called_2 : List UInt8 := [4, 160, 0, 39, 42, 180, 0, 7, 16, 12, 21, 4, 104, 21, 5, 96, 46, 16, 6, 160, 0, 21, 28, 4]
abbrev dktX4_called_2 : List UInt8 := dkwX4_called_2 ++ dktX4_called_3
def dkwX4_called_1 : List UInt8 := [21, 5, 42, 180, 0, 22, 21, 4, 46, 162, 0, 61, 21, 4, 27, 159, 0, 13, 28, 21, 4, 122, 4, 126]
abbrev dktX4_called_1 : List UInt8 := dkwX4_called_1 ++ dktX4_called_2
def dkwX4_called_0 : List UInt8 := [3, 61, 2, 62, 29, 28, 159, 0, 96, 28, 62, 3, 54, 4, 21, 4, 7, 162, 0, 82, 3, 54, 5]
abbrev dktX4_called_0 : List UInt8 := dkwX4_called_0 ++ dktX4_called_1
theorem dksX4_called_0 : cX4_called.data.toList.drop 0 = dktX4_called_0 := by decide +kernel
theorem dksX4_called_1 : cX4_called.data.toList.drop 23 = dktX4_called_1 := dk_seg dksX4_called_0 23 rfl rfl
theorem dksX4_called_2 : cX4_called.data.toList.drop 47 = dktX4_called_2 := dk_seg dksX4_called_1 24 rfl rfl
theorem dksX4_called_3 : cX4_called.data.toList.drop 71 = dktX4_called_3 := dk_seg dksX4_called_2 24 rfl rfl
theorem dksX4_called_4 : cX4_called.data.toList.drop 93 = dktX4_called_4 := dk_seg dksX4_called_3 22 rfl rfl
theorem dX4_called_0 : decode cX4_called 0 = .ok (.iconst 0, 1) := dk_3 (dk_at dksX4_called_0 0 rfl rfl)
theorem dX4_called_1 : decode cX4_called 1 = .ok (.istore_n 2, 1) := dk_61 (dk_at dksX4_called_0 1 rfl rfl)
theorem dX4_called_2 : decode cX4_called 2 = .ok (.iconst (-1), 1) := dk_2 (dk_at dksX4_called_0 2 rfl rfl)
theorem dX4_called_3 : decode cX4_called 3 = .ok (.istore_n 3, 1) := dk_62 (dk_at dksX4_called_0 3 rfl rfl)
theorem dX4_called_4 : decode cX4_called 4 = .ok (.iload_n 3, 1) := dk_29 (dk_at dksX4_called_0 4 rfl rfl)
theorem dX4_called_5 : decode cX4_called 5 = .ok (.iload_n 2, 1) := dk_28 (dk_at dksX4_called_0 5 rfl rfl)
theorem dX4_called_6 : decode cX4_called 6 = .ok (.if_icmp .eq 96, 3) := dk_159 0 96 (dk_at dksX4_called_0 6 rfl rfl)
theorem dX4_called_9 : decode cX4_called 9 = .ok (.iload_n 2, 1) := dk_28 (dk_at dksX4_called_0 9 rfl rfl)
theorem dX4_called_10 : decode cX4_called 10 = .ok (.istore_n 3, 1) := dk_62 (dk_at dksX4_called_0 10 rfl rfl)
theorem dX4_called_11 : decode cX4_called 11 = .ok (.iconst 0, 1) := dk_3 (dk_at dksX4_called_0 11 rfl rfl)
theorem dX4_called_12 : decode cX4_called 12 = .ok (.istore 4, 2) := dk_54 4 (dk_at dksX4_called_0 12 rfl rfl)
theorem dX4_called_14 : decode cX4_called 14 = .ok (.iload 4, 2) := dk_21 4 (dk_at dksX4_called_0 14 rfl rfl)
theorem dX4_called_16 : decode cX4_called 16 = .ok (.iconst 4, 1) := dk_7 (dk_at dksX4_called_0 16 rfl rfl)
theorem dX4_called_17 : decode cX4_called 17 = .ok (.if_icmp .ge 82, 3) := dk_162 0 82 (dk_at dksX4_called_0 17 rfl rfl)
theorem dX4_called_20 : decode cX4_called 20 = .ok (.iconst 0, 1) := dk_3 (dk_at dksX4_called_0 20 rfl rfl)
theorem dX4_called_21 : decode cX4_called 21 = .ok (.istore 5, 2) := dk_54 5 (dk_at dksX4_called_0 21 rfl rfl)
theorem dX4_called_23 : decode cX4_called 23 = .ok (.iload 5, 2) := dk_21 5 (dk_at dksX4_called_1 0 rfl rfl)
theorem dX4_called_25 : decode cX4_called 25 = .ok (.aload_n 0, 1) := dk_42 (dk_at dksX4_called_1 2 rfl rfl)
theorem dX4_called_26 : decode cX4_called 26 = .ok (.getfield 22, 3) := dk_180 0 22 (dk_at dksX4_called_1 3 rfl rfl)
theorem dX4_called_29 : decode cX4_called 29 = .ok (.iload 4, 2) := dk_21 4 (dk_at dksX4_called_1 6 rfl rfl)
theorem dX4_called_31 : decode cX4_called 31 = .ok (.iaload, 1) := dk_46 (dk_at dksX4_called_1 8 rfl rfl)
theorem dX4_called_32 : decode cX4_called 32 = .ok (.if_icmp .ge 61, 3) := dk_162 0 61 (dk_at dksX4_called_1 9 rfl rfl)
theorem dX4_called_35 : decode cX4_called 35 = .ok (.iload 4, 2) := dk_21 4 (dk_at dksX4_called_1 12 rfl rfl)
theorem dX4_called_37 : decode cX4_called 37 = .ok (.iload_n 1, 1) := dk_27 (dk_at dksX4_called_1 14 rfl rfl)
theorem dX4_called_38 : decode cX4_called 38 = .ok (.if_icmp .eq 13, 3) := dk_159 0 13 (dk_at dksX4_called_1 15 rfl rfl)
theorem dX4_called_41 : decode cX4_called 41 = .ok (.iload_n 2, 1) := dk_28 (dk_at dksX4_called_1 18 rfl rfl)
theorem dX4_called_42 : decode cX4_called 42 = .ok (.iload 4, 2) := dk_21 4 (dk_at dksX4_called_1 19 rfl rfl)
theorem dX4_called_44 : decode cX4_called 44 = .ok (.ishr, 1) := dk_122 (dk_at dksX4_called_1 21 rfl rfl)
theorem dX4_called_45 : decode cX4_called 45 = .ok (.iconst 1, 1) := dk_4 (dk_at dksX4_called_1 22 rfl rfl)
theorem dX4_called_46 : decode cX4_called 46 = .ok (.iand, 1) := dk_126 (dk_at dksX4_called_1 23 rfl rfl)
theorem dX4_called_47 : decode cX4_called 47 = .ok (.iconst 1, 1) := dk_4 (dk_at dksX4_called_2 0 rfl rfl)
theorem dX4_called_48 : decode cX4_called 48 = .ok (.if_icmp .ne 39, 3) := dk_160 0 39 (dk_at dksX4_called_2 1 rfl rfl)
theorem dX4_called_51 : decode cX4_called 51 = .ok (.aload_n 0, 1) := dk_42 (dk_at dksX4_called_2 4 rfl rfl)
theorem dX4_called_52 : decode cX4_called 52 = .ok (.getfield 7, 3) := dk_180 0 7 (dk_at dksX4_called_2 5 rfl rfl)
theorem dX4_called_55 : decode cX4_called 55 = .ok (.bipush 12, 2) := dk_16 12 (dk_at dksX4_called_2 8 rfl rfl)
theorem dX4_called_57 : decode cX4_called 57 = .ok (.iload 4, 2) := dk_21 4 (dk_at dksX4_called_2 10 rfl rfl)
theorem dX4_called_59 : decode cX4_called 59 = .ok (.imul, 1) := dk_104 (dk_at dksX4_called_2 12 rfl rfl)
theorem dX4_called_60 : decode cX4_called 60 = .ok (.iload 5, 2) := dk_21 5 (dk_at dksX4_called_2 13 rfl rfl)
theorem dX4_called_62 : decode cX4_called 62 = .ok (.iadd, 1) := dk_96 (dk_at dksX4_called_2 15 rfl rfl)
theorem dX4_called_63 : decode cX4_called 63 = .ok (.iaload, 1) := dk_46 (dk_at dksX4_called_2 16 rfl rfl)
theorem dX4_called_64 : decode cX4_called 64 = .ok (.bipush 6, 2) := dk_16 6 (dk_at dksX4_called_2 17 rfl rfl)
theorem dX4_called_66 : decode cX4_called 66 = .ok (.if_icmp .ne 21, 3) := dk_160 0 21 (dk_at dksX4_called_2 19 rfl rfl)
theorem dX4_called_69 : decode cX4_called 69 = .ok (.iload_n 2, 1) := dk_28 (dk_at dksX4_called_2 22 rfl rfl)
theorem dX4_called_70 : decode cX4_called 70 = .ok (.iconst 1, 1) := dk_4 (dk_at dksX4_called_2 23 rfl rfl)
theorem dX4_called_71 : decode cX4_called 71 = .ok (.aload_n 0, 1) := dk_42 (dk_at dksX4_called_3 0 rfl rfl)
theorem dX4_called_72 : decode cX4_called 72 = .ok (.getfield 19, 3) := dk_180 0 19 (dk_at dksX4_called_3 1 rfl rfl)
theorem dX4_called_75 : decode cX4_called 75 = .ok (.bipush 12, 2) := dk_16 12 (dk_at dksX4_called_3 4 rfl rfl)
theorem dX4_called_77 : decode cX4_called 77 = .ok (.iload 4, 2) := dk_21 4 (dk_at dksX4_called_3 6 rfl rfl)
theorem dX4_called_79 : decode cX4_called 79 = .ok (.imul, 1) := dk_104 (dk_at dksX4_called_3 8 rfl rfl)
theorem dX4_called_80 : decode cX4_called 80 = .ok (.iload 5, 2) := dk_21 5 (dk_at dksX4_called_3 9 rfl rfl)
theorem dX4_called_82 : decode cX4_called 82 = .ok (.iadd, 1) := dk_96 (dk_at dksX4_called_3 11 rfl rfl)
theorem dX4_called_83 : decode cX4_called 83 = .ok (.iaload, 1) := dk_46 (dk_at dksX4_called_3 12 rfl rfl)
theorem dX4_called_84 : decode cX4_called 84 = .ok (.ishl, 1) := dk_120 (dk_at dksX4_called_3 13 rfl rfl)
theorem dX4_called_85 : decode cX4_called 85 = .ok (.ior, 1) := dk_128 (dk_at dksX4_called_3 14 rfl rfl)
theorem dX4_called_86 : decode cX4_called 86 = .ok (.istore_n 2, 1) := dk_61 (dk_at dksX4_called_3 15 rfl rfl)
theorem dX4_called_87 : decode cX4_called 87 = .ok (.iinc 5 1, 3) := dk_132 5 1 (dk_at dksX4_called_3 16 rfl rfl)
theorem dX4_called_90 : decode cX4_called 90 = .ok (.goto (-67), 3) := dk_167 255 189 (dk_at dksX4_called_3 19 rfl rfl)
theorem dX4_called_93 : decode cX4_called 93 = .ok (.iinc 4 1, 3) := dk_132 4 1 (dk_at dksX4_called_4 0 rfl rfl)
theorem dX4_called_96 : decode cX4_called 96 = .ok (.goto (-82), 3) := dk_167 255 174 (dk_at dksX4_called_4 3 rfl rfl)
theorem dX4_called_99 : decode cX4_called 99 = .ok (.goto (-95), 3) := dk_167 255 161 (dk_at dksX4_called_4 6 rfl rfl)
theorem dX4_called_102 : decode cX4_called 102 = .ok (.iload_n 2, 1) := dk_28 (dk_at dksX4_called_4 9 rfl rfl)
theorem dX4_called_103 : decode cX4_called 103 = .ok (.ireturn, 1) := dk_172 (dk_at dksX4_called_4 10 rfl rfl)
abbrev cX4_isReachable : ByteArray := prog_21_method_82_code
def yX4_isReachable : MethodName := ⟨RX4, "isReachable", "(I)Z"⟩
def dkwX4_isReachable_1 : List UInt8 := [182, 0, 238, 158, 0, 7, 4, 167, 0, 4, 3, 172]
abbrev dktX4_isReachable_1 : List UInt8 := dkwX4_isReachable_1 ++ []
def dkwX4_isReachable_0 : List UInt8 := [27, 184, 0, 141, 154, 0, 9, 42, 4, 182, 1, 8, 172, 42, 3, 181, 0, 84, 42, 182, 0, 235, 42, 27]
abbrev dktX4_isReachable_0 : List UInt8 := dkwX4_isReachable_0 ++ dktX4_isReachable_1
theorem dksX4_isReachable_0 : cX4_isReachable.data.toList.drop 0 = dktX4_isReachable_0 := by decide +kernel
theorem dksX4_isReachable_1 : cX4_isReachable.data.toList.drop 24 = dktX4_isReachable_1 := dk_seg dksX4_isReachable_0 24 rfl rfl
theorem dX4_isReachable_0 : decode cX4_isReachable 0 = .ok (.iload_n 1, 1) := dk_27 (dk_at dksX4_isReachable_0 0 rfl rfl)
theorem dX4_isReachable_1 : decode cX4_isReachable 1 = .ok (.invokestatic 141, 3) := dk_184 0 141 (dk_at dksX4_isReachable_0 1 rfl rfl)
theorem dX4_isReachable_4 : decode cX4_isReachable 4 = .ok (.ifCond .ne 9, 3) := dk_154 0 9 (dk_at dksX4_isReachable_0 4 rfl rfl)
theorem dX4_isReachable_7 : decode cX4_isReachable 7 = .ok (.aload_n 0, 1) := dk_42 (dk_at dksX4_isReachable_0 7 rfl rfl)
theorem dX4_isReachable_8 : decode cX4_isReachable 8 = .ok (.iconst 1, 1) := dk_4 (dk_at dksX4_isReachable_0 8 rfl rfl)
theorem dX4_isReachable_9 : decode cX4_isReachable 9 = .ok (.invokevirtual 264, 3) := dk_182 1 8 (dk_at dksX4_isReachable_0 9 rfl rfl)
theorem dX4_isReachable_12 : decode cX4_isReachable 12 = .ok (.ireturn, 1) := dk_172 (dk_at dksX4_isReachable_0 12 rfl rfl)
theorem dX4_isReachable_13 : decode cX4_isReachable 13 = .ok (.aload_n 0, 1) := dk_42 (dk_at dksX4_isReachable_0 13 rfl rfl)
theorem dX4_isReachable_14 : decode cX4_isReachable 14 = .ok (.iconst 0, 1) := dk_3 (dk_at dksX4_isReachable_0 14 rfl rfl)
theorem dX4_isReachable_15 : decode cX4_isReachable 15 = .ok (.putfield 84, 3) := dk_181 0 84 (dk_at dksX4_isReachable_0 15 rfl rfl)
theorem dX4_isReachable_18 : decode cX4_isReachable 18 = .ok (.aload_n 0, 1) := dk_42 (dk_at dksX4_isReachable_0 18 rfl rfl)
theorem dX4_isReachable_19 : decode cX4_isReachable 19 = .ok (.invokevirtual 235, 3) := dk_182 0 235 (dk_at dksX4_isReachable_0 19 rfl rfl)
theorem dX4_isReachable_22 : decode cX4_isReachable 22 = .ok (.aload_n 0, 1) := dk_42 (dk_at dksX4_isReachable_0 22 rfl rfl)
theorem dX4_isReachable_23 : decode cX4_isReachable 23 = .ok (.iload_n 1, 1) := dk_27 (dk_at dksX4_isReachable_0 23 rfl rfl)
theorem dX4_isReachable_24 : decode cX4_isReachable 24 = .ok (.invokevirtual 238, 3) := dk_182 0 238 (dk_at dksX4_isReachable_1 0 rfl rfl)
theorem dX4_isReachable_27 : decode cX4_isReachable 27 = .ok (.ifCond .le 7, 3) := dk_158 0 7 (dk_at dksX4_isReachable_1 3 rfl rfl)
theorem dX4_isReachable_30 : decode cX4_isReachable 30 = .ok (.iconst 1, 1) := dk_4 (dk_at dksX4_isReachable_1 6 rfl rfl)
theorem dX4_isReachable_31 : decode cX4_isReachable 31 = .ok (.goto 4, 3) := dk_167 0 4 (dk_at dksX4_isReachable_1 7 rfl rfl)
theorem dX4_isReachable_34 : decode cX4_isReachable 34 = .ok (.iconst 0, 1) := dk_3 (dk_at dksX4_isReachable_1 10 rfl rfl)
theorem dX4_isReachable_35 : decode cX4_isReachable 35 = .ok (.ireturn, 1) := dk_172 (dk_at dksX4_isReachable_1 11 rfl rfl)
abbrev cX4_isRecursive : ByteArray := prog_21_method_83_code
def yX4_isRecursive : MethodName := ⟨RX4, "isRecursive", "(I)Z"⟩
def dkwX4_isRecursive_1 : List UInt8 := [122, 4, 126, 4, 160, 0, 7, 4, 167, 0, 4, 3, 172]
abbrev dktX4_isRecursive_1 : List UInt8 := dkwX4_isRecursive_1 ++ []
def dkwX4_isRecursive_0 : List UInt8 := [27, 184, 0, 141, 154, 0, 9, 42, 4, 182, 1, 8, 172, 42, 3, 181, 0, 84, 42, 27, 182, 1, 46, 27]
abbrev dktX4_isRecursive_0 : List UInt8 := dkwX4_isRecursive_0 ++ dktX4_isRecursive_1
theorem dksX4_isRecursive_0 : cX4_isRecursive.data.toList.drop 0 = dktX4_isRecursive_0 := by decide +kernel
theorem dksX4_isRecursive_1 : cX4_isRecursive.data.toList.drop 24 = dktX4_isRecursive_1 := dk_seg dksX4_isRecursive_0 24 rfl rfl
theorem dX4_isRecursive_0 : decode cX4_isRecursive 0 = .ok (.iload_n 1, 1) := dk_27 (dk_at dksX4_isRecursive_0 0 rfl rfl)
theorem dX4_isRecursive_1 : decode cX4_isRecursive 1 = .ok (.invokestatic 141, 3) := dk_184 0 141 (dk_at dksX4_isRecursive_0 1 rfl rfl)
theorem dX4_isRecursive_4 : decode cX4_isRecursive 4 = .ok (.ifCond .ne 9, 3) := dk_154 0 9 (dk_at dksX4_isRecursive_0 4 rfl rfl)
theorem dX4_isRecursive_7 : decode cX4_isRecursive 7 = .ok (.aload_n 0, 1) := dk_42 (dk_at dksX4_isRecursive_0 7 rfl rfl)
theorem dX4_isRecursive_8 : decode cX4_isRecursive 8 = .ok (.iconst 1, 1) := dk_4 (dk_at dksX4_isRecursive_0 8 rfl rfl)
theorem dX4_isRecursive_9 : decode cX4_isRecursive 9 = .ok (.invokevirtual 264, 3) := dk_182 1 8 (dk_at dksX4_isRecursive_0 9 rfl rfl)
theorem dX4_isRecursive_12 : decode cX4_isRecursive 12 = .ok (.ireturn, 1) := dk_172 (dk_at dksX4_isRecursive_0 12 rfl rfl)
theorem dX4_isRecursive_13 : decode cX4_isRecursive 13 = .ok (.aload_n 0, 1) := dk_42 (dk_at dksX4_isRecursive_0 13 rfl rfl)
theorem dX4_isRecursive_14 : decode cX4_isRecursive 14 = .ok (.iconst 0, 1) := dk_3 (dk_at dksX4_isRecursive_0 14 rfl rfl)
theorem dX4_isRecursive_15 : decode cX4_isRecursive 15 = .ok (.putfield 84, 3) := dk_181 0 84 (dk_at dksX4_isRecursive_0 15 rfl rfl)
theorem dX4_isRecursive_18 : decode cX4_isRecursive 18 = .ok (.aload_n 0, 1) := dk_42 (dk_at dksX4_isRecursive_0 18 rfl rfl)
theorem dX4_isRecursive_19 : decode cX4_isRecursive 19 = .ok (.iload_n 1, 1) := dk_27 (dk_at dksX4_isRecursive_0 19 rfl rfl)
theorem dX4_isRecursive_20 : decode cX4_isRecursive 20 = .ok (.invokevirtual 302, 3) := dk_182 1 46 (dk_at dksX4_isRecursive_0 20 rfl rfl)
theorem dX4_isRecursive_23 : decode cX4_isRecursive 23 = .ok (.iload_n 1, 1) := dk_27 (dk_at dksX4_isRecursive_0 23 rfl rfl)
theorem dX4_isRecursive_24 : decode cX4_isRecursive 24 = .ok (.ishr, 1) := dk_122 (dk_at dksX4_isRecursive_1 0 rfl rfl)
theorem dX4_isRecursive_25 : decode cX4_isRecursive 25 = .ok (.iconst 1, 1) := dk_4 (dk_at dksX4_isRecursive_1 1 rfl rfl)
theorem dX4_isRecursive_26 : decode cX4_isRecursive 26 = .ok (.iand, 1) := dk_126 (dk_at dksX4_isRecursive_1 2 rfl rfl)
theorem dX4_isRecursive_27 : decode cX4_isRecursive 27 = .ok (.iconst 1, 1) := dk_4 (dk_at dksX4_isRecursive_1 3 rfl rfl)
theorem dX4_isRecursive_28 : decode cX4_isRecursive 28 = .ok (.if_icmp .ne 7, 3) := dk_160 0 7 (dk_at dksX4_isRecursive_1 4 rfl rfl)
theorem dX4_isRecursive_31 : decode cX4_isRecursive 31 = .ok (.iconst 1, 1) := dk_4 (dk_at dksX4_isRecursive_1 7 rfl rfl)
theorem dX4_isRecursive_32 : decode cX4_isRecursive 32 = .ok (.goto 4, 3) := dk_167 0 4 (dk_at dksX4_isRecursive_1 8 rfl rfl)
theorem dX4_isRecursive_35 : decode cX4_isRecursive 35 = .ok (.iconst 0, 1) := dk_3 (dk_at dksX4_isRecursive_1 11 rfl rfl)
theorem dX4_isRecursive_36 : decode cX4_isRecursive 36 = .ok (.ireturn, 1) := dk_172 (dk_at dksX4_isRecursive_1 12 rfl rfl)
abbrev cX4_cycleOf : ByteArray := prog_21_method_86_code
def yX4_cycleOf : MethodName := ⟨RX4, "cycleOf", "(I)I"⟩
def dkwX4_cycleOf_1 : List UInt8 := [42, 27, 4, 182, 1, 53, 126, 172]
abbrev dktX4_cycleOf_1 : List UInt8 := dkwX4_cycleOf_1 ++ []
def dkwX4_cycleOf_0 : List UInt8 := [27, 184, 0, 251, 154, 0, 9, 42, 4, 182, 0, 98, 172, 42, 3, 181, 0, 84, 42, 27, 3, 182, 1, 53]
abbrev dktX4_cycleOf_0 : List UInt8 := dkwX4_cycleOf_0 ++ dktX4_cycleOf_1
theorem dksX4_cycleOf_0 : cX4_cycleOf.data.toList.drop 0 = dktX4_cycleOf_0 := by decide +kernel
theorem dksX4_cycleOf_1 : cX4_cycleOf.data.toList.drop 24 = dktX4_cycleOf_1 := dk_seg dksX4_cycleOf_0 24 rfl rfl
theorem dX4_cycleOf_0 : decode cX4_cycleOf 0 = .ok (.iload_n 1, 1) := dk_27 (dk_at dksX4_cycleOf_0 0 rfl rfl)
theorem dX4_cycleOf_1 : decode cX4_cycleOf 1 = .ok (.invokestatic 251, 3) := dk_184 0 251 (dk_at dksX4_cycleOf_0 1 rfl rfl)
theorem dX4_cycleOf_4 : decode cX4_cycleOf 4 = .ok (.ifCond .ne 9, 3) := dk_154 0 9 (dk_at dksX4_cycleOf_0 4 rfl rfl)
theorem dX4_cycleOf_7 : decode cX4_cycleOf 7 = .ok (.aload_n 0, 1) := dk_42 (dk_at dksX4_cycleOf_0 7 rfl rfl)
theorem dX4_cycleOf_8 : decode cX4_cycleOf 8 = .ok (.iconst 1, 1) := dk_4 (dk_at dksX4_cycleOf_0 8 rfl rfl)
theorem dX4_cycleOf_9 : decode cX4_cycleOf 9 = .ok (.invokevirtual 98, 3) := dk_182 0 98 (dk_at dksX4_cycleOf_0 9 rfl rfl)
theorem dX4_cycleOf_12 : decode cX4_cycleOf 12 = .ok (.ireturn, 1) := dk_172 (dk_at dksX4_cycleOf_0 12 rfl rfl)
theorem dX4_cycleOf_13 : decode cX4_cycleOf 13 = .ok (.aload_n 0, 1) := dk_42 (dk_at dksX4_cycleOf_0 13 rfl rfl)
theorem dX4_cycleOf_14 : decode cX4_cycleOf 14 = .ok (.iconst 0, 1) := dk_3 (dk_at dksX4_cycleOf_0 14 rfl rfl)
theorem dX4_cycleOf_15 : decode cX4_cycleOf 15 = .ok (.putfield 84, 3) := dk_181 0 84 (dk_at dksX4_cycleOf_0 15 rfl rfl)
theorem dX4_cycleOf_18 : decode cX4_cycleOf 18 = .ok (.aload_n 0, 1) := dk_42 (dk_at dksX4_cycleOf_0 18 rfl rfl)
theorem dX4_cycleOf_19 : decode cX4_cycleOf 19 = .ok (.iload_n 1, 1) := dk_27 (dk_at dksX4_cycleOf_0 19 rfl rfl)
theorem dX4_cycleOf_20 : decode cX4_cycleOf 20 = .ok (.iconst 0, 1) := dk_3 (dk_at dksX4_cycleOf_0 20 rfl rfl)
theorem dX4_cycleOf_21 : decode cX4_cycleOf 21 = .ok (.invokevirtual 309, 3) := dk_182 1 53 (dk_at dksX4_cycleOf_0 21 rfl rfl)
theorem dX4_cycleOf_24 : decode cX4_cycleOf 24 = .ok (.aload_n 0, 1) := dk_42 (dk_at dksX4_cycleOf_1 0 rfl rfl)
theorem dX4_cycleOf_25 : decode cX4_cycleOf 25 = .ok (.iload_n 1, 1) := dk_27 (dk_at dksX4_cycleOf_1 1 rfl rfl)
theorem dX4_cycleOf_26 : decode cX4_cycleOf 26 = .ok (.iconst 1, 1) := dk_4 (dk_at dksX4_cycleOf_1 2 rfl rfl)
theorem dX4_cycleOf_27 : decode cX4_cycleOf 27 = .ok (.invokevirtual 309, 3) := dk_182 1 53 (dk_at dksX4_cycleOf_1 3 rfl rfl)
theorem dX4_cycleOf_30 : decode cX4_cycleOf 30 = .ok (.iand, 1) := dk_126 (dk_at dksX4_cycleOf_1 6 rfl rfl)
theorem dX4_cycleOf_31 : decode cX4_cycleOf 31 = .ok (.ireturn, 1) := dk_172 (dk_at dksX4_cycleOf_1 7 rfl rfl)
abbrev cX4_led : ByteArray := prog_21_method_84_code
def yX4_led : MethodName := ⟨RX4, "led", "(IZ)I"⟩
def dkwX4_led_6 : List UInt8 := [29, 172]
abbrev dktX4_led_6 : List UInt8 := dkwX4_led_6 ++ []
def dkwX4_led_5 : List UInt8 := [96, 42, 180, 0, 13, 21, 6, 46, 28, 184, 1, 49, 128, 128, 62, 132, 5, 1, 167, 255, 140, 167, 255, 125]
abbrev dktX4_led_5 : List UInt8 := dkwX4_led_5 ++ dktX4_led_6
def dkwX4_led_4 : List UInt8 := [180, 0, 16, 21, 6, 46, 7, 7, 21, 7, 104, 96, 28, 184, 1, 49, 29, 7, 7, 21, 7, 104, 96, 4]
abbrev dktX4_led_4 : List UInt8 := dkwX4_led_4 ++ dktX4_led_5
def dkwX4_led_3 : List UInt8 := [21, 6, 46, 28, 184, 1, 49, 128, 62, 42, 180, 0, 7, 21, 6, 46, 16, 6, 160, 0, 45, 29, 29, 42]
abbrev dktX4_led_3 : List UInt8 := dkwX4_led_3 ++ dktX4_led_4
def dkwX4_led_2 : List UInt8 := [180, 0, 7, 21, 6, 46, 4, 160, 0, 25, 29, 29, 42, 180, 0, 16, 21, 6, 46, 42, 180, 0, 13]
abbrev dktX4_led_2 : List UInt8 := dkwX4_led_2 ++ dktX4_led_3
def dkwX4_led_1 : List UInt8 := [182, 0, 162, 162, 0, 113, 42, 21, 5, 182, 0, 91, 54, 6, 42, 180, 0, 19, 21, 6, 46, 54, 7, 42]
abbrev dktX4_led_1 : List UInt8 := dkwX4_led_1 ++ dktX4_led_2
def dkwX4_led_0 : List UInt8 := [4, 27, 120, 62, 3, 54, 4, 21, 4, 29, 159, 0, 131, 29, 54, 4, 3, 54, 5, 21, 5, 42]
abbrev dktX4_led_0 : List UInt8 := dkwX4_led_0 ++ dktX4_led_1
theorem dksX4_led_0 : cX4_led.data.toList.drop 0 = dktX4_led_0 := by decide +kernel
theorem dksX4_led_1 : cX4_led.data.toList.drop 22 = dktX4_led_1 := dk_seg dksX4_led_0 22 rfl rfl
theorem dksX4_led_2 : cX4_led.data.toList.drop 46 = dktX4_led_2 := dk_seg dksX4_led_1 24 rfl rfl
theorem dksX4_led_3 : cX4_led.data.toList.drop 69 = dktX4_led_3 := dk_seg dksX4_led_2 23 rfl rfl
theorem dksX4_led_4 : cX4_led.data.toList.drop 93 = dktX4_led_4 := dk_seg dksX4_led_3 24 rfl rfl
theorem dksX4_led_5 : cX4_led.data.toList.drop 117 = dktX4_led_5 := dk_seg dksX4_led_4 24 rfl rfl
theorem dksX4_led_6 : cX4_led.data.toList.drop 141 = dktX4_led_6 := dk_seg dksX4_led_5 24 rfl rfl
theorem dX4_led_0 : decode cX4_led 0 = .ok (.iconst 1, 1) := dk_4 (dk_at dksX4_led_0 0 rfl rfl)
theorem dX4_led_1 : decode cX4_led 1 = .ok (.iload_n 1, 1) := dk_27 (dk_at dksX4_led_0 1 rfl rfl)
theorem dX4_led_2 : decode cX4_led 2 = .ok (.ishl, 1) := dk_120 (dk_at dksX4_led_0 2 rfl rfl)
theorem dX4_led_3 : decode cX4_led 3 = .ok (.istore_n 3, 1) := dk_62 (dk_at dksX4_led_0 3 rfl rfl)
theorem dX4_led_4 : decode cX4_led 4 = .ok (.iconst 0, 1) := dk_3 (dk_at dksX4_led_0 4 rfl rfl)
theorem dX4_led_5 : decode cX4_led 5 = .ok (.istore 4, 2) := dk_54 4 (dk_at dksX4_led_0 5 rfl rfl)
theorem dX4_led_7 : decode cX4_led 7 = .ok (.iload 4, 2) := dk_21 4 (dk_at dksX4_led_0 7 rfl rfl)
theorem dX4_led_9 : decode cX4_led 9 = .ok (.iload_n 3, 1) := dk_29 (dk_at dksX4_led_0 9 rfl rfl)
theorem dX4_led_10 : decode cX4_led 10 = .ok (.if_icmp .eq 131, 3) := dk_159 0 131 (dk_at dksX4_led_0 10 rfl rfl)
theorem dX4_led_13 : decode cX4_led 13 = .ok (.iload_n 3, 1) := dk_29 (dk_at dksX4_led_0 13 rfl rfl)
theorem dX4_led_14 : decode cX4_led 14 = .ok (.istore 4, 2) := dk_54 4 (dk_at dksX4_led_0 14 rfl rfl)
theorem dX4_led_16 : decode cX4_led 16 = .ok (.iconst 0, 1) := dk_3 (dk_at dksX4_led_0 16 rfl rfl)
theorem dX4_led_17 : decode cX4_led 17 = .ok (.istore 5, 2) := dk_54 5 (dk_at dksX4_led_0 17 rfl rfl)
theorem dX4_led_19 : decode cX4_led 19 = .ok (.iload 5, 2) := dk_21 5 (dk_at dksX4_led_0 19 rfl rfl)
theorem dX4_led_21 : decode cX4_led 21 = .ok (.aload_n 0, 1) := dk_42 (dk_at dksX4_led_0 21 rfl rfl)
theorem dX4_led_22 : decode cX4_led 22 = .ok (.invokevirtual 162, 3) := dk_182 0 162 (dk_at dksX4_led_1 0 rfl rfl)
theorem dX4_led_25 : decode cX4_led 25 = .ok (.if_icmp .ge 113, 3) := dk_162 0 113 (dk_at dksX4_led_1 3 rfl rfl)
theorem dX4_led_28 : decode cX4_led 28 = .ok (.aload_n 0, 1) := dk_42 (dk_at dksX4_led_1 6 rfl rfl)
theorem dX4_led_29 : decode cX4_led 29 = .ok (.iload 5, 2) := dk_21 5 (dk_at dksX4_led_1 7 rfl rfl)
theorem dX4_led_31 : decode cX4_led 31 = .ok (.invokevirtual 91, 3) := dk_182 0 91 (dk_at dksX4_led_1 9 rfl rfl)
theorem dX4_led_34 : decode cX4_led 34 = .ok (.istore 6, 2) := dk_54 6 (dk_at dksX4_led_1 12 rfl rfl)
theorem dX4_led_36 : decode cX4_led 36 = .ok (.aload_n 0, 1) := dk_42 (dk_at dksX4_led_1 14 rfl rfl)
theorem dX4_led_37 : decode cX4_led 37 = .ok (.getfield 19, 3) := dk_180 0 19 (dk_at dksX4_led_1 15 rfl rfl)
theorem dX4_led_40 : decode cX4_led 40 = .ok (.iload 6, 2) := dk_21 6 (dk_at dksX4_led_1 18 rfl rfl)
theorem dX4_led_42 : decode cX4_led 42 = .ok (.iaload, 1) := dk_46 (dk_at dksX4_led_1 20 rfl rfl)
theorem dX4_led_43 : decode cX4_led 43 = .ok (.istore 7, 2) := dk_54 7 (dk_at dksX4_led_1 21 rfl rfl)
theorem dX4_led_45 : decode cX4_led 45 = .ok (.aload_n 0, 1) := dk_42 (dk_at dksX4_led_1 23 rfl rfl)
theorem dX4_led_46 : decode cX4_led 46 = .ok (.getfield 7, 3) := dk_180 0 7 (dk_at dksX4_led_2 0 rfl rfl)
theorem dX4_led_49 : decode cX4_led 49 = .ok (.iload 6, 2) := dk_21 6 (dk_at dksX4_led_2 3 rfl rfl)
theorem dX4_led_51 : decode cX4_led 51 = .ok (.iaload, 1) := dk_46 (dk_at dksX4_led_2 5 rfl rfl)
theorem dX4_led_52 : decode cX4_led 52 = .ok (.iconst 1, 1) := dk_4 (dk_at dksX4_led_2 6 rfl rfl)
theorem dX4_led_53 : decode cX4_led 53 = .ok (.if_icmp .ne 25, 3) := dk_160 0 25 (dk_at dksX4_led_2 7 rfl rfl)
theorem dX4_led_56 : decode cX4_led 56 = .ok (.iload_n 3, 1) := dk_29 (dk_at dksX4_led_2 10 rfl rfl)
theorem dX4_led_57 : decode cX4_led 57 = .ok (.iload_n 3, 1) := dk_29 (dk_at dksX4_led_2 11 rfl rfl)
theorem dX4_led_58 : decode cX4_led 58 = .ok (.aload_n 0, 1) := dk_42 (dk_at dksX4_led_2 12 rfl rfl)
theorem dX4_led_59 : decode cX4_led 59 = .ok (.getfield 16, 3) := dk_180 0 16 (dk_at dksX4_led_2 13 rfl rfl)
theorem dX4_led_62 : decode cX4_led 62 = .ok (.iload 6, 2) := dk_21 6 (dk_at dksX4_led_2 16 rfl rfl)
theorem dX4_led_64 : decode cX4_led 64 = .ok (.iaload, 1) := dk_46 (dk_at dksX4_led_2 18 rfl rfl)
theorem dX4_led_65 : decode cX4_led 65 = .ok (.aload_n 0, 1) := dk_42 (dk_at dksX4_led_2 19 rfl rfl)
theorem dX4_led_66 : decode cX4_led 66 = .ok (.getfield 13, 3) := dk_180 0 13 (dk_at dksX4_led_2 20 rfl rfl)
theorem dX4_led_69 : decode cX4_led 69 = .ok (.iload 6, 2) := dk_21 6 (dk_at dksX4_led_3 0 rfl rfl)
theorem dX4_led_71 : decode cX4_led 71 = .ok (.iaload, 1) := dk_46 (dk_at dksX4_led_3 2 rfl rfl)
theorem dX4_led_72 : decode cX4_led 72 = .ok (.iload_n 2, 1) := dk_28 (dk_at dksX4_led_3 3 rfl rfl)
theorem dX4_led_73 : decode cX4_led 73 = .ok (.invokestatic 305, 3) := dk_184 1 49 (dk_at dksX4_led_3 4 rfl rfl)
theorem dX4_led_76 : decode cX4_led 76 = .ok (.ior, 1) := dk_128 (dk_at dksX4_led_3 7 rfl rfl)
theorem dX4_led_77 : decode cX4_led 77 = .ok (.istore_n 3, 1) := dk_62 (dk_at dksX4_led_3 8 rfl rfl)
theorem dX4_led_78 : decode cX4_led 78 = .ok (.aload_n 0, 1) := dk_42 (dk_at dksX4_led_3 9 rfl rfl)
theorem dX4_led_79 : decode cX4_led 79 = .ok (.getfield 7, 3) := dk_180 0 7 (dk_at dksX4_led_3 10 rfl rfl)
theorem dX4_led_82 : decode cX4_led 82 = .ok (.iload 6, 2) := dk_21 6 (dk_at dksX4_led_3 13 rfl rfl)
theorem dX4_led_84 : decode cX4_led 84 = .ok (.iaload, 1) := dk_46 (dk_at dksX4_led_3 15 rfl rfl)
theorem dX4_led_85 : decode cX4_led 85 = .ok (.bipush 6, 2) := dk_16 6 (dk_at dksX4_led_3 16 rfl rfl)
theorem dX4_led_87 : decode cX4_led 87 = .ok (.if_icmp .ne 45, 3) := dk_160 0 45 (dk_at dksX4_led_3 18 rfl rfl)
theorem dX4_led_90 : decode cX4_led 90 = .ok (.iload_n 3, 1) := dk_29 (dk_at dksX4_led_3 21 rfl rfl)
theorem dX4_led_91 : decode cX4_led 91 = .ok (.iload_n 3, 1) := dk_29 (dk_at dksX4_led_3 22 rfl rfl)
theorem dX4_led_92 : decode cX4_led 92 = .ok (.aload_n 0, 1) := dk_42 (dk_at dksX4_led_3 23 rfl rfl)
theorem dX4_led_93 : decode cX4_led 93 = .ok (.getfield 16, 3) := dk_180 0 16 (dk_at dksX4_led_4 0 rfl rfl)
theorem dX4_led_96 : decode cX4_led 96 = .ok (.iload 6, 2) := dk_21 6 (dk_at dksX4_led_4 3 rfl rfl)
theorem dX4_led_98 : decode cX4_led 98 = .ok (.iaload, 1) := dk_46 (dk_at dksX4_led_4 5 rfl rfl)
theorem dX4_led_99 : decode cX4_led 99 = .ok (.iconst 4, 1) := dk_7 (dk_at dksX4_led_4 6 rfl rfl)
theorem dX4_led_100 : decode cX4_led 100 = .ok (.iconst 4, 1) := dk_7 (dk_at dksX4_led_4 7 rfl rfl)
theorem dX4_led_101 : decode cX4_led 101 = .ok (.iload 7, 2) := dk_21 7 (dk_at dksX4_led_4 8 rfl rfl)
theorem dX4_led_103 : decode cX4_led 103 = .ok (.imul, 1) := dk_104 (dk_at dksX4_led_4 10 rfl rfl)
theorem dX4_led_104 : decode cX4_led 104 = .ok (.iadd, 1) := dk_96 (dk_at dksX4_led_4 11 rfl rfl)
theorem dX4_led_105 : decode cX4_led 105 = .ok (.iload_n 2, 1) := dk_28 (dk_at dksX4_led_4 12 rfl rfl)
theorem dX4_led_106 : decode cX4_led 106 = .ok (.invokestatic 305, 3) := dk_184 1 49 (dk_at dksX4_led_4 13 rfl rfl)
theorem dX4_led_109 : decode cX4_led 109 = .ok (.iload_n 3, 1) := dk_29 (dk_at dksX4_led_4 16 rfl rfl)
theorem dX4_led_110 : decode cX4_led 110 = .ok (.iconst 4, 1) := dk_7 (dk_at dksX4_led_4 17 rfl rfl)
theorem dX4_led_111 : decode cX4_led 111 = .ok (.iconst 4, 1) := dk_7 (dk_at dksX4_led_4 18 rfl rfl)
theorem dX4_led_112 : decode cX4_led 112 = .ok (.iload 7, 2) := dk_21 7 (dk_at dksX4_led_4 19 rfl rfl)
theorem dX4_led_114 : decode cX4_led 114 = .ok (.imul, 1) := dk_104 (dk_at dksX4_led_4 21 rfl rfl)
theorem dX4_led_115 : decode cX4_led 115 = .ok (.iadd, 1) := dk_96 (dk_at dksX4_led_4 22 rfl rfl)
theorem dX4_led_116 : decode cX4_led 116 = .ok (.iconst 1, 1) := dk_4 (dk_at dksX4_led_4 23 rfl rfl)
theorem dX4_led_117 : decode cX4_led 117 = .ok (.iadd, 1) := dk_96 (dk_at dksX4_led_5 0 rfl rfl)
theorem dX4_led_118 : decode cX4_led 118 = .ok (.aload_n 0, 1) := dk_42 (dk_at dksX4_led_5 1 rfl rfl)
theorem dX4_led_119 : decode cX4_led 119 = .ok (.getfield 13, 3) := dk_180 0 13 (dk_at dksX4_led_5 2 rfl rfl)
theorem dX4_led_122 : decode cX4_led 122 = .ok (.iload 6, 2) := dk_21 6 (dk_at dksX4_led_5 5 rfl rfl)
theorem dX4_led_124 : decode cX4_led 124 = .ok (.iaload, 1) := dk_46 (dk_at dksX4_led_5 7 rfl rfl)
theorem dX4_led_125 : decode cX4_led 125 = .ok (.iload_n 2, 1) := dk_28 (dk_at dksX4_led_5 8 rfl rfl)
theorem dX4_led_126 : decode cX4_led 126 = .ok (.invokestatic 305, 3) := dk_184 1 49 (dk_at dksX4_led_5 9 rfl rfl)
theorem dX4_led_129 : decode cX4_led 129 = .ok (.ior, 1) := dk_128 (dk_at dksX4_led_5 12 rfl rfl)
theorem dX4_led_130 : decode cX4_led 130 = .ok (.ior, 1) := dk_128 (dk_at dksX4_led_5 13 rfl rfl)
theorem dX4_led_131 : decode cX4_led 131 = .ok (.istore_n 3, 1) := dk_62 (dk_at dksX4_led_5 14 rfl rfl)
theorem dX4_led_132 : decode cX4_led 132 = .ok (.iinc 5 1, 3) := dk_132 5 1 (dk_at dksX4_led_5 15 rfl rfl)
theorem dX4_led_135 : decode cX4_led 135 = .ok (.goto (-116), 3) := dk_167 255 140 (dk_at dksX4_led_5 18 rfl rfl)
theorem dX4_led_138 : decode cX4_led 138 = .ok (.goto (-131), 3) := dk_167 255 125 (dk_at dksX4_led_5 21 rfl rfl)
theorem dX4_led_141 : decode cX4_led 141 = .ok (.iload_n 3, 1) := dk_29 (dk_at dksX4_led_6 0 rfl rfl)
theorem dX4_led_142 : decode cX4_led 142 = .ok (.ireturn, 1) := dk_172 (dk_at dksX4_led_6 1 rfl rfl)
abbrev cX4_edge : ByteArray := prog_21_method_85_code
def yX4_edge : MethodName := ⟨RX4, "edge", "(IIIZ)I"⟩
def dkwX4_edge_1 : List UInt8 := [167, 0, 4, 28, 120, 167, 0, 4, 3, 172]
abbrev dktX4_edge_1 : List UInt8 := dkwX4_edge_1 ++ []
def dkwX4_edge_0 : List UInt8 := [26, 29, 153, 0, 7, 28, 167, 0, 4, 27, 122, 4, 126, 4, 160, 0, 17, 4, 29, 153, 0, 7, 27]
abbrev dktX4_edge_0 : List UInt8 := dkwX4_edge_0 ++ dktX4_edge_1
theorem dksX4_edge_0 : cX4_edge.data.toList.drop 0 = dktX4_edge_0 := by decide +kernel
theorem dksX4_edge_1 : cX4_edge.data.toList.drop 23 = dktX4_edge_1 := dk_seg dksX4_edge_0 23 rfl rfl
theorem dX4_edge_0 : decode cX4_edge 0 = .ok (.iload_n 0, 1) := dk_26 (dk_at dksX4_edge_0 0 rfl rfl)
theorem dX4_edge_1 : decode cX4_edge 1 = .ok (.iload_n 3, 1) := dk_29 (dk_at dksX4_edge_0 1 rfl rfl)
theorem dX4_edge_2 : decode cX4_edge 2 = .ok (.ifCond .eq 7, 3) := dk_153 0 7 (dk_at dksX4_edge_0 2 rfl rfl)
theorem dX4_edge_5 : decode cX4_edge 5 = .ok (.iload_n 2, 1) := dk_28 (dk_at dksX4_edge_0 5 rfl rfl)
theorem dX4_edge_6 : decode cX4_edge 6 = .ok (.goto 4, 3) := dk_167 0 4 (dk_at dksX4_edge_0 6 rfl rfl)
theorem dX4_edge_9 : decode cX4_edge 9 = .ok (.iload_n 1, 1) := dk_27 (dk_at dksX4_edge_0 9 rfl rfl)
theorem dX4_edge_10 : decode cX4_edge 10 = .ok (.ishr, 1) := dk_122 (dk_at dksX4_edge_0 10 rfl rfl)
theorem dX4_edge_11 : decode cX4_edge 11 = .ok (.iconst 1, 1) := dk_4 (dk_at dksX4_edge_0 11 rfl rfl)
theorem dX4_edge_12 : decode cX4_edge 12 = .ok (.iand, 1) := dk_126 (dk_at dksX4_edge_0 12 rfl rfl)
theorem dX4_edge_13 : decode cX4_edge 13 = .ok (.iconst 1, 1) := dk_4 (dk_at dksX4_edge_0 13 rfl rfl)
theorem dX4_edge_14 : decode cX4_edge 14 = .ok (.if_icmp .ne 17, 3) := dk_160 0 17 (dk_at dksX4_edge_0 14 rfl rfl)
theorem dX4_edge_17 : decode cX4_edge 17 = .ok (.iconst 1, 1) := dk_4 (dk_at dksX4_edge_0 17 rfl rfl)
theorem dX4_edge_18 : decode cX4_edge 18 = .ok (.iload_n 3, 1) := dk_29 (dk_at dksX4_edge_0 18 rfl rfl)
theorem dX4_edge_19 : decode cX4_edge 19 = .ok (.ifCond .eq 7, 3) := dk_153 0 7 (dk_at dksX4_edge_0 19 rfl rfl)
theorem dX4_edge_22 : decode cX4_edge 22 = .ok (.iload_n 1, 1) := dk_27 (dk_at dksX4_edge_0 22 rfl rfl)
theorem dX4_edge_23 : decode cX4_edge 23 = .ok (.goto 4, 3) := dk_167 0 4 (dk_at dksX4_edge_1 0 rfl rfl)
theorem dX4_edge_26 : decode cX4_edge 26 = .ok (.iload_n 2, 1) := dk_28 (dk_at dksX4_edge_1 3 rfl rfl)
theorem dX4_edge_27 : decode cX4_edge 27 = .ok (.ishl, 1) := dk_120 (dk_at dksX4_edge_1 4 rfl rfl)
theorem dX4_edge_28 : decode cX4_edge 28 = .ok (.goto 4, 3) := dk_167 0 4 (dk_at dksX4_edge_1 5 rfl rfl)
theorem dX4_edge_31 : decode cX4_edge 31 = .ok (.iconst 0, 1) := dk_3 (dk_at dksX4_edge_1 8 rfl rfl)
theorem dX4_edge_32 : decode cX4_edge 32 = .ok (.ireturn, 1) := dk_172 (dk_at dksX4_edge_1 9 rfl rfl)
abbrev cX4_run : ByteArray := prog_21_method_95_code
def yX4_run : MethodName := ⟨RX4, "run", "()I"⟩
def dkwX4_run_7 : List UInt8 := [180, 1, 82, 172]
abbrev dktX4_run_7 : List UInt8 := dkwX4_run_7 ++ []
def dkwX4_run_6 : List UInt8 := [4, 96, 79, 42, 89, 180, 1, 82, 4, 96, 181, 1, 82, 42, 28, 182, 1, 91, 167, 255, 153, 42]
abbrev dktX4_run_6 : List UInt8 := dkwX4_run_6 ++ dktX4_run_7
def dkwX4_run_5 : List UInt8 := [180, 0, 72, 42, 180, 1, 63, 4, 100, 46, 96, 61, 42, 180, 0, 72, 42, 180, 1, 63, 4, 100, 92, 46]
abbrev dktX4_run_5 : List UInt8 := dkwX4_run_5 ++ dktX4_run_6
def dkwX4_run_4 : List UInt8 := [100, 46, 42, 180, 0, 22, 27, 46, 160, 0, 10, 42, 182, 1, 88, 167, 255, 203, 16, 12, 27, 104, 42]
abbrev dktX4_run_4 : List UInt8 := dkwX4_run_4 ++ dktX4_run_5
def dkwX4_run_3 : List UInt8 := [162, 0, 92, 42, 180, 0, 69, 42, 180, 1, 63, 4, 100, 46, 60, 42, 180, 0, 72, 42, 180, 1, 63, 4]
abbrev dktX4_run_3 : List UInt8 := dkwX4_run_3 ++ dktX4_run_4
def dkwX4_run_2 : List UInt8 := [181, 1, 82, 42, 3, 182, 1, 85, 42, 180, 1, 63, 158, 0, 102, 42, 180, 1, 82, 17, 0, 200]
abbrev dktX4_run_2 : List UInt8 := dkwX4_run_2 ++ dktX4_run_3
def dkwX4_run_1 : List UInt8 := [180, 0, 66, 27, 27, 79, 132, 1, 1, 167, 255, 234, 42, 3, 181, 1, 63, 42, 3, 181, 1, 66, 42, 3]
abbrev dktX4_run_1 : List UInt8 := dkwX4_run_1 ++ dktX4_run_2
def dkwX4_run_0 : List UInt8 := [42, 3, 181, 0, 84, 42, 182, 0, 159, 3, 60, 27, 7, 162, 0, 23, 42, 180, 0, 63, 27, 3, 79, 42]
abbrev dktX4_run_0 : List UInt8 := dkwX4_run_0 ++ dktX4_run_1
theorem dksX4_run_0 : cX4_run.data.toList.drop 0 = dktX4_run_0 := by decide +kernel
theorem dksX4_run_1 : cX4_run.data.toList.drop 24 = dktX4_run_1 := dk_seg dksX4_run_0 24 rfl rfl
theorem dksX4_run_2 : cX4_run.data.toList.drop 48 = dktX4_run_2 := dk_seg dksX4_run_1 24 rfl rfl
theorem dksX4_run_3 : cX4_run.data.toList.drop 70 = dktX4_run_3 := dk_seg dksX4_run_2 22 rfl rfl
theorem dksX4_run_4 : cX4_run.data.toList.drop 94 = dktX4_run_4 := dk_seg dksX4_run_3 24 rfl rfl
theorem dksX4_run_5 : cX4_run.data.toList.drop 117 = dktX4_run_5 := dk_seg dksX4_run_4 23 rfl rfl
theorem dksX4_run_6 : cX4_run.data.toList.drop 141 = dktX4_run_6 := dk_seg dksX4_run_5 24 rfl rfl
theorem dksX4_run_7 : cX4_run.data.toList.drop 163 = dktX4_run_7 := dk_seg dksX4_run_6 22 rfl rfl
theorem dX4_run_0 : decode cX4_run 0 = .ok (.aload_n 0, 1) := dk_42 (dk_at dksX4_run_0 0 rfl rfl)
theorem dX4_run_1 : decode cX4_run 1 = .ok (.iconst 0, 1) := dk_3 (dk_at dksX4_run_0 1 rfl rfl)
theorem dX4_run_2 : decode cX4_run 2 = .ok (.putfield 84, 3) := dk_181 0 84 (dk_at dksX4_run_0 2 rfl rfl)
theorem dX4_run_5 : decode cX4_run 5 = .ok (.aload_n 0, 1) := dk_42 (dk_at dksX4_run_0 5 rfl rfl)
theorem dX4_run_6 : decode cX4_run 6 = .ok (.invokevirtual 159, 3) := dk_182 0 159 (dk_at dksX4_run_0 6 rfl rfl)
theorem dX4_run_9 : decode cX4_run 9 = .ok (.iconst 0, 1) := dk_3 (dk_at dksX4_run_0 9 rfl rfl)
theorem dX4_run_10 : decode cX4_run 10 = .ok (.istore_n 1, 1) := dk_60 (dk_at dksX4_run_0 10 rfl rfl)
theorem dX4_run_11 : decode cX4_run 11 = .ok (.iload_n 1, 1) := dk_27 (dk_at dksX4_run_0 11 rfl rfl)
theorem dX4_run_12 : decode cX4_run 12 = .ok (.iconst 4, 1) := dk_7 (dk_at dksX4_run_0 12 rfl rfl)
theorem dX4_run_13 : decode cX4_run 13 = .ok (.if_icmp .ge 23, 3) := dk_162 0 23 (dk_at dksX4_run_0 13 rfl rfl)
theorem dX4_run_16 : decode cX4_run 16 = .ok (.aload_n 0, 1) := dk_42 (dk_at dksX4_run_0 16 rfl rfl)
theorem dX4_run_17 : decode cX4_run 17 = .ok (.getfield 63, 3) := dk_180 0 63 (dk_at dksX4_run_0 17 rfl rfl)
theorem dX4_run_20 : decode cX4_run 20 = .ok (.iload_n 1, 1) := dk_27 (dk_at dksX4_run_0 20 rfl rfl)
theorem dX4_run_21 : decode cX4_run 21 = .ok (.iconst 0, 1) := dk_3 (dk_at dksX4_run_0 21 rfl rfl)
theorem dX4_run_22 : decode cX4_run 22 = .ok (.iastore, 1) := dk_79 (dk_at dksX4_run_0 22 rfl rfl)
theorem dX4_run_23 : decode cX4_run 23 = .ok (.aload_n 0, 1) := dk_42 (dk_at dksX4_run_0 23 rfl rfl)
theorem dX4_run_24 : decode cX4_run 24 = .ok (.getfield 66, 3) := dk_180 0 66 (dk_at dksX4_run_1 0 rfl rfl)
theorem dX4_run_27 : decode cX4_run 27 = .ok (.iload_n 1, 1) := dk_27 (dk_at dksX4_run_1 3 rfl rfl)
theorem dX4_run_28 : decode cX4_run 28 = .ok (.iload_n 1, 1) := dk_27 (dk_at dksX4_run_1 4 rfl rfl)
theorem dX4_run_29 : decode cX4_run 29 = .ok (.iastore, 1) := dk_79 (dk_at dksX4_run_1 5 rfl rfl)
theorem dX4_run_30 : decode cX4_run 30 = .ok (.iinc 1 1, 3) := dk_132 1 1 (dk_at dksX4_run_1 6 rfl rfl)
theorem dX4_run_33 : decode cX4_run 33 = .ok (.goto (-22), 3) := dk_167 255 234 (dk_at dksX4_run_1 9 rfl rfl)
theorem dX4_run_36 : decode cX4_run 36 = .ok (.aload_n 0, 1) := dk_42 (dk_at dksX4_run_1 12 rfl rfl)
theorem dX4_run_37 : decode cX4_run 37 = .ok (.iconst 0, 1) := dk_3 (dk_at dksX4_run_1 13 rfl rfl)
theorem dX4_run_38 : decode cX4_run 38 = .ok (.putfield 319, 3) := dk_181 1 63 (dk_at dksX4_run_1 14 rfl rfl)
theorem dX4_run_41 : decode cX4_run 41 = .ok (.aload_n 0, 1) := dk_42 (dk_at dksX4_run_1 17 rfl rfl)
theorem dX4_run_42 : decode cX4_run 42 = .ok (.iconst 0, 1) := dk_3 (dk_at dksX4_run_1 18 rfl rfl)
theorem dX4_run_43 : decode cX4_run 43 = .ok (.putfield 322, 3) := dk_181 1 66 (dk_at dksX4_run_1 19 rfl rfl)
theorem dX4_run_46 : decode cX4_run 46 = .ok (.aload_n 0, 1) := dk_42 (dk_at dksX4_run_1 22 rfl rfl)
theorem dX4_run_47 : decode cX4_run 47 = .ok (.iconst 0, 1) := dk_3 (dk_at dksX4_run_1 23 rfl rfl)
theorem dX4_run_48 : decode cX4_run 48 = .ok (.putfield 338, 3) := dk_181 1 82 (dk_at dksX4_run_2 0 rfl rfl)
theorem dX4_run_51 : decode cX4_run 51 = .ok (.aload_n 0, 1) := dk_42 (dk_at dksX4_run_2 3 rfl rfl)
theorem dX4_run_52 : decode cX4_run 52 = .ok (.iconst 0, 1) := dk_3 (dk_at dksX4_run_2 4 rfl rfl)
theorem dX4_run_53 : decode cX4_run 53 = .ok (.invokevirtual 341, 3) := dk_182 1 85 (dk_at dksX4_run_2 5 rfl rfl)
theorem dX4_run_56 : decode cX4_run 56 = .ok (.aload_n 0, 1) := dk_42 (dk_at dksX4_run_2 8 rfl rfl)
theorem dX4_run_57 : decode cX4_run 57 = .ok (.getfield 319, 3) := dk_180 1 63 (dk_at dksX4_run_2 9 rfl rfl)
theorem dX4_run_60 : decode cX4_run 60 = .ok (.ifCond .le 102, 3) := dk_158 0 102 (dk_at dksX4_run_2 12 rfl rfl)
theorem dX4_run_63 : decode cX4_run 63 = .ok (.aload_n 0, 1) := dk_42 (dk_at dksX4_run_2 15 rfl rfl)
theorem dX4_run_64 : decode cX4_run 64 = .ok (.getfield 338, 3) := dk_180 1 82 (dk_at dksX4_run_2 16 rfl rfl)
theorem dX4_run_67 : decode cX4_run 67 = .ok (.sipush 200, 3) := dk_17 0 200 (dk_at dksX4_run_2 19 rfl rfl)
theorem dX4_run_70 : decode cX4_run 70 = .ok (.if_icmp .ge 92, 3) := dk_162 0 92 (dk_at dksX4_run_3 0 rfl rfl)
theorem dX4_run_73 : decode cX4_run 73 = .ok (.aload_n 0, 1) := dk_42 (dk_at dksX4_run_3 3 rfl rfl)
theorem dX4_run_74 : decode cX4_run 74 = .ok (.getfield 69, 3) := dk_180 0 69 (dk_at dksX4_run_3 4 rfl rfl)
theorem dX4_run_77 : decode cX4_run 77 = .ok (.aload_n 0, 1) := dk_42 (dk_at dksX4_run_3 7 rfl rfl)
theorem dX4_run_78 : decode cX4_run 78 = .ok (.getfield 319, 3) := dk_180 1 63 (dk_at dksX4_run_3 8 rfl rfl)
theorem dX4_run_81 : decode cX4_run 81 = .ok (.iconst 1, 1) := dk_4 (dk_at dksX4_run_3 11 rfl rfl)
theorem dX4_run_82 : decode cX4_run 82 = .ok (.isub, 1) := dk_100 (dk_at dksX4_run_3 12 rfl rfl)
theorem dX4_run_83 : decode cX4_run 83 = .ok (.iaload, 1) := dk_46 (dk_at dksX4_run_3 13 rfl rfl)
theorem dX4_run_84 : decode cX4_run 84 = .ok (.istore_n 1, 1) := dk_60 (dk_at dksX4_run_3 14 rfl rfl)
theorem dX4_run_85 : decode cX4_run 85 = .ok (.aload_n 0, 1) := dk_42 (dk_at dksX4_run_3 15 rfl rfl)
theorem dX4_run_86 : decode cX4_run 86 = .ok (.getfield 72, 3) := dk_180 0 72 (dk_at dksX4_run_3 16 rfl rfl)
theorem dX4_run_89 : decode cX4_run 89 = .ok (.aload_n 0, 1) := dk_42 (dk_at dksX4_run_3 19 rfl rfl)
theorem dX4_run_90 : decode cX4_run 90 = .ok (.getfield 319, 3) := dk_180 1 63 (dk_at dksX4_run_3 20 rfl rfl)
theorem dX4_run_93 : decode cX4_run 93 = .ok (.iconst 1, 1) := dk_4 (dk_at dksX4_run_3 23 rfl rfl)
theorem dX4_run_94 : decode cX4_run 94 = .ok (.isub, 1) := dk_100 (dk_at dksX4_run_4 0 rfl rfl)
theorem dX4_run_95 : decode cX4_run 95 = .ok (.iaload, 1) := dk_46 (dk_at dksX4_run_4 1 rfl rfl)
theorem dX4_run_96 : decode cX4_run 96 = .ok (.aload_n 0, 1) := dk_42 (dk_at dksX4_run_4 2 rfl rfl)
theorem dX4_run_97 : decode cX4_run 97 = .ok (.getfield 22, 3) := dk_180 0 22 (dk_at dksX4_run_4 3 rfl rfl)
theorem dX4_run_100 : decode cX4_run 100 = .ok (.iload_n 1, 1) := dk_27 (dk_at dksX4_run_4 6 rfl rfl)
theorem dX4_run_101 : decode cX4_run 101 = .ok (.iaload, 1) := dk_46 (dk_at dksX4_run_4 7 rfl rfl)
theorem dX4_run_102 : decode cX4_run 102 = .ok (.if_icmp .ne 10, 3) := dk_160 0 10 (dk_at dksX4_run_4 8 rfl rfl)
theorem dX4_run_105 : decode cX4_run 105 = .ok (.aload_n 0, 1) := dk_42 (dk_at dksX4_run_4 11 rfl rfl)
theorem dX4_run_106 : decode cX4_run 106 = .ok (.invokevirtual 344, 3) := dk_182 1 88 (dk_at dksX4_run_4 12 rfl rfl)
theorem dX4_run_109 : decode cX4_run 109 = .ok (.goto (-53), 3) := dk_167 255 203 (dk_at dksX4_run_4 15 rfl rfl)
theorem dX4_run_112 : decode cX4_run 112 = .ok (.bipush 12, 2) := dk_16 12 (dk_at dksX4_run_4 18 rfl rfl)
theorem dX4_run_114 : decode cX4_run 114 = .ok (.iload_n 1, 1) := dk_27 (dk_at dksX4_run_4 20 rfl rfl)
theorem dX4_run_115 : decode cX4_run 115 = .ok (.imul, 1) := dk_104 (dk_at dksX4_run_4 21 rfl rfl)
theorem dX4_run_116 : decode cX4_run 116 = .ok (.aload_n 0, 1) := dk_42 (dk_at dksX4_run_4 22 rfl rfl)
theorem dX4_run_117 : decode cX4_run 117 = .ok (.getfield 72, 3) := dk_180 0 72 (dk_at dksX4_run_5 0 rfl rfl)
theorem dX4_run_120 : decode cX4_run 120 = .ok (.aload_n 0, 1) := dk_42 (dk_at dksX4_run_5 3 rfl rfl)
theorem dX4_run_121 : decode cX4_run 121 = .ok (.getfield 319, 3) := dk_180 1 63 (dk_at dksX4_run_5 4 rfl rfl)
theorem dX4_run_124 : decode cX4_run 124 = .ok (.iconst 1, 1) := dk_4 (dk_at dksX4_run_5 7 rfl rfl)
theorem dX4_run_125 : decode cX4_run 125 = .ok (.isub, 1) := dk_100 (dk_at dksX4_run_5 8 rfl rfl)
theorem dX4_run_126 : decode cX4_run 126 = .ok (.iaload, 1) := dk_46 (dk_at dksX4_run_5 9 rfl rfl)
theorem dX4_run_127 : decode cX4_run 127 = .ok (.iadd, 1) := dk_96 (dk_at dksX4_run_5 10 rfl rfl)
theorem dX4_run_128 : decode cX4_run 128 = .ok (.istore_n 2, 1) := dk_61 (dk_at dksX4_run_5 11 rfl rfl)
theorem dX4_run_129 : decode cX4_run 129 = .ok (.aload_n 0, 1) := dk_42 (dk_at dksX4_run_5 12 rfl rfl)
theorem dX4_run_130 : decode cX4_run 130 = .ok (.getfield 72, 3) := dk_180 0 72 (dk_at dksX4_run_5 13 rfl rfl)
theorem dX4_run_133 : decode cX4_run 133 = .ok (.aload_n 0, 1) := dk_42 (dk_at dksX4_run_5 16 rfl rfl)
theorem dX4_run_134 : decode cX4_run 134 = .ok (.getfield 319, 3) := dk_180 1 63 (dk_at dksX4_run_5 17 rfl rfl)
theorem dX4_run_137 : decode cX4_run 137 = .ok (.iconst 1, 1) := dk_4 (dk_at dksX4_run_5 20 rfl rfl)
theorem dX4_run_138 : decode cX4_run 138 = .ok (.isub, 1) := dk_100 (dk_at dksX4_run_5 21 rfl rfl)
theorem dX4_run_139 : decode cX4_run 139 = .ok (.dup2, 1) := dk_92 (dk_at dksX4_run_5 22 rfl rfl)
theorem dX4_run_140 : decode cX4_run 140 = .ok (.iaload, 1) := dk_46 (dk_at dksX4_run_5 23 rfl rfl)
theorem dX4_run_141 : decode cX4_run 141 = .ok (.iconst 1, 1) := dk_4 (dk_at dksX4_run_6 0 rfl rfl)
theorem dX4_run_142 : decode cX4_run 142 = .ok (.iadd, 1) := dk_96 (dk_at dksX4_run_6 1 rfl rfl)
theorem dX4_run_143 : decode cX4_run 143 = .ok (.iastore, 1) := dk_79 (dk_at dksX4_run_6 2 rfl rfl)
theorem dX4_run_144 : decode cX4_run 144 = .ok (.aload_n 0, 1) := dk_42 (dk_at dksX4_run_6 3 rfl rfl)
theorem dX4_run_145 : decode cX4_run 145 = .ok (.dup, 1) := dk_89 (dk_at dksX4_run_6 4 rfl rfl)
theorem dX4_run_146 : decode cX4_run 146 = .ok (.getfield 338, 3) := dk_180 1 82 (dk_at dksX4_run_6 5 rfl rfl)
theorem dX4_run_149 : decode cX4_run 149 = .ok (.iconst 1, 1) := dk_4 (dk_at dksX4_run_6 8 rfl rfl)
theorem dX4_run_150 : decode cX4_run 150 = .ok (.iadd, 1) := dk_96 (dk_at dksX4_run_6 9 rfl rfl)
theorem dX4_run_151 : decode cX4_run 151 = .ok (.putfield 338, 3) := dk_181 1 82 (dk_at dksX4_run_6 10 rfl rfl)
theorem dX4_run_154 : decode cX4_run 154 = .ok (.aload_n 0, 1) := dk_42 (dk_at dksX4_run_6 13 rfl rfl)
theorem dX4_run_155 : decode cX4_run 155 = .ok (.iload_n 2, 1) := dk_28 (dk_at dksX4_run_6 14 rfl rfl)
theorem dX4_run_156 : decode cX4_run 156 = .ok (.invokevirtual 347, 3) := dk_182 1 91 (dk_at dksX4_run_6 15 rfl rfl)
theorem dX4_run_159 : decode cX4_run 159 = .ok (.goto (-103), 3) := dk_167 255 153 (dk_at dksX4_run_6 18 rfl rfl)
theorem dX4_run_162 : decode cX4_run 162 = .ok (.aload_n 0, 1) := dk_42 (dk_at dksX4_run_6 21 rfl rfl)
theorem dX4_run_163 : decode cX4_run 163 = .ok (.getfield 338, 3) := dk_180 1 82 (dk_at dksX4_run_7 0 rfl rfl)
theorem dX4_run_166 : decode cX4_run 166 = .ok (.ireturn, 1) := dk_172 (dk_at dksX4_run_7 3 rfl rfl)
abbrev cX4_opens : ByteArray := prog_21_method_90_code
def yX4_opens : MethodName := ⟨RX4, "opens", "(I)V"⟩
def dkwX4_opens_4 : List UInt8 := [180, 1, 66, 4, 96, 181, 1, 66, 42, 89, 180, 1, 63, 4, 96, 181, 1, 63, 177]
abbrev dktX4_opens_4 : List UInt8 := dkwX4_opens_4 ++ []
def dkwX4_opens_3 : List UInt8 := [180, 1, 63, 46, 28, 96, 7, 7, 27, 104, 96, 28, 96, 79, 132, 2, 1, 167, 255, 208, 42, 89]
abbrev dktX4_opens_3 : List UInt8 := dkwX4_opens_3 ++ dktX4_opens_4
def dkwX4_opens_2 : List UInt8 := [42, 180, 0, 75, 42, 180, 1, 63, 46, 28, 96, 3, 79, 42, 180, 0, 66, 42, 180, 0, 75, 42]
abbrev dktX4_opens_2 : List UInt8 := dkwX4_opens_2 ++ dktX4_opens_3
def dkwX4_opens_1 : List UInt8 := [42, 180, 1, 63, 7, 7, 42, 180, 1, 66, 104, 96, 79, 3, 61, 28, 7, 162, 0, 49, 42, 180, 0, 63]
abbrev dktX4_opens_1 : List UInt8 := dkwX4_opens_1 ++ dktX4_opens_2
def dkwX4_opens_0 : List UInt8 := [42, 180, 0, 69, 42, 180, 1, 63, 27, 79, 42, 180, 0, 72, 42, 180, 1, 63, 3, 79, 42, 180, 0, 75]
abbrev dktX4_opens_0 : List UInt8 := dkwX4_opens_0 ++ dktX4_opens_1
theorem dksX4_opens_0 : cX4_opens.data.toList.drop 0 = dktX4_opens_0 := by decide +kernel
theorem dksX4_opens_1 : cX4_opens.data.toList.drop 24 = dktX4_opens_1 := dk_seg dksX4_opens_0 24 rfl rfl
theorem dksX4_opens_2 : cX4_opens.data.toList.drop 48 = dktX4_opens_2 := dk_seg dksX4_opens_1 24 rfl rfl
theorem dksX4_opens_3 : cX4_opens.data.toList.drop 70 = dktX4_opens_3 := dk_seg dksX4_opens_2 22 rfl rfl
theorem dksX4_opens_4 : cX4_opens.data.toList.drop 92 = dktX4_opens_4 := dk_seg dksX4_opens_3 22 rfl rfl
theorem dX4_opens_0 : decode cX4_opens 0 = .ok (.aload_n 0, 1) := dk_42 (dk_at dksX4_opens_0 0 rfl rfl)
theorem dX4_opens_1 : decode cX4_opens 1 = .ok (.getfield 69, 3) := dk_180 0 69 (dk_at dksX4_opens_0 1 rfl rfl)
theorem dX4_opens_4 : decode cX4_opens 4 = .ok (.aload_n 0, 1) := dk_42 (dk_at dksX4_opens_0 4 rfl rfl)
theorem dX4_opens_5 : decode cX4_opens 5 = .ok (.getfield 319, 3) := dk_180 1 63 (dk_at dksX4_opens_0 5 rfl rfl)
theorem dX4_opens_8 : decode cX4_opens 8 = .ok (.iload_n 1, 1) := dk_27 (dk_at dksX4_opens_0 8 rfl rfl)
theorem dX4_opens_9 : decode cX4_opens 9 = .ok (.iastore, 1) := dk_79 (dk_at dksX4_opens_0 9 rfl rfl)
theorem dX4_opens_10 : decode cX4_opens 10 = .ok (.aload_n 0, 1) := dk_42 (dk_at dksX4_opens_0 10 rfl rfl)
theorem dX4_opens_11 : decode cX4_opens 11 = .ok (.getfield 72, 3) := dk_180 0 72 (dk_at dksX4_opens_0 11 rfl rfl)
theorem dX4_opens_14 : decode cX4_opens 14 = .ok (.aload_n 0, 1) := dk_42 (dk_at dksX4_opens_0 14 rfl rfl)
theorem dX4_opens_15 : decode cX4_opens 15 = .ok (.getfield 319, 3) := dk_180 1 63 (dk_at dksX4_opens_0 15 rfl rfl)
theorem dX4_opens_18 : decode cX4_opens 18 = .ok (.iconst 0, 1) := dk_3 (dk_at dksX4_opens_0 18 rfl rfl)
theorem dX4_opens_19 : decode cX4_opens 19 = .ok (.iastore, 1) := dk_79 (dk_at dksX4_opens_0 19 rfl rfl)
theorem dX4_opens_20 : decode cX4_opens 20 = .ok (.aload_n 0, 1) := dk_42 (dk_at dksX4_opens_0 20 rfl rfl)
theorem dX4_opens_21 : decode cX4_opens 21 = .ok (.getfield 75, 3) := dk_180 0 75 (dk_at dksX4_opens_0 21 rfl rfl)
theorem dX4_opens_24 : decode cX4_opens 24 = .ok (.aload_n 0, 1) := dk_42 (dk_at dksX4_opens_1 0 rfl rfl)
theorem dX4_opens_25 : decode cX4_opens 25 = .ok (.getfield 319, 3) := dk_180 1 63 (dk_at dksX4_opens_1 1 rfl rfl)
theorem dX4_opens_28 : decode cX4_opens 28 = .ok (.iconst 4, 1) := dk_7 (dk_at dksX4_opens_1 4 rfl rfl)
theorem dX4_opens_29 : decode cX4_opens 29 = .ok (.iconst 4, 1) := dk_7 (dk_at dksX4_opens_1 5 rfl rfl)
theorem dX4_opens_30 : decode cX4_opens 30 = .ok (.aload_n 0, 1) := dk_42 (dk_at dksX4_opens_1 6 rfl rfl)
theorem dX4_opens_31 : decode cX4_opens 31 = .ok (.getfield 322, 3) := dk_180 1 66 (dk_at dksX4_opens_1 7 rfl rfl)
theorem dX4_opens_34 : decode cX4_opens 34 = .ok (.imul, 1) := dk_104 (dk_at dksX4_opens_1 10 rfl rfl)
theorem dX4_opens_35 : decode cX4_opens 35 = .ok (.iadd, 1) := dk_96 (dk_at dksX4_opens_1 11 rfl rfl)
theorem dX4_opens_36 : decode cX4_opens 36 = .ok (.iastore, 1) := dk_79 (dk_at dksX4_opens_1 12 rfl rfl)
theorem dX4_opens_37 : decode cX4_opens 37 = .ok (.iconst 0, 1) := dk_3 (dk_at dksX4_opens_1 13 rfl rfl)
theorem dX4_opens_38 : decode cX4_opens 38 = .ok (.istore_n 2, 1) := dk_61 (dk_at dksX4_opens_1 14 rfl rfl)
theorem dX4_opens_39 : decode cX4_opens 39 = .ok (.iload_n 2, 1) := dk_28 (dk_at dksX4_opens_1 15 rfl rfl)
theorem dX4_opens_40 : decode cX4_opens 40 = .ok (.iconst 4, 1) := dk_7 (dk_at dksX4_opens_1 16 rfl rfl)
theorem dX4_opens_41 : decode cX4_opens 41 = .ok (.if_icmp .ge 49, 3) := dk_162 0 49 (dk_at dksX4_opens_1 17 rfl rfl)
theorem dX4_opens_44 : decode cX4_opens 44 = .ok (.aload_n 0, 1) := dk_42 (dk_at dksX4_opens_1 20 rfl rfl)
theorem dX4_opens_45 : decode cX4_opens 45 = .ok (.getfield 63, 3) := dk_180 0 63 (dk_at dksX4_opens_1 21 rfl rfl)
theorem dX4_opens_48 : decode cX4_opens 48 = .ok (.aload_n 0, 1) := dk_42 (dk_at dksX4_opens_2 0 rfl rfl)
theorem dX4_opens_49 : decode cX4_opens 49 = .ok (.getfield 75, 3) := dk_180 0 75 (dk_at dksX4_opens_2 1 rfl rfl)
theorem dX4_opens_52 : decode cX4_opens 52 = .ok (.aload_n 0, 1) := dk_42 (dk_at dksX4_opens_2 4 rfl rfl)
theorem dX4_opens_53 : decode cX4_opens 53 = .ok (.getfield 319, 3) := dk_180 1 63 (dk_at dksX4_opens_2 5 rfl rfl)
theorem dX4_opens_56 : decode cX4_opens 56 = .ok (.iaload, 1) := dk_46 (dk_at dksX4_opens_2 8 rfl rfl)
theorem dX4_opens_57 : decode cX4_opens 57 = .ok (.iload_n 2, 1) := dk_28 (dk_at dksX4_opens_2 9 rfl rfl)
theorem dX4_opens_58 : decode cX4_opens 58 = .ok (.iadd, 1) := dk_96 (dk_at dksX4_opens_2 10 rfl rfl)
theorem dX4_opens_59 : decode cX4_opens 59 = .ok (.iconst 0, 1) := dk_3 (dk_at dksX4_opens_2 11 rfl rfl)
theorem dX4_opens_60 : decode cX4_opens 60 = .ok (.iastore, 1) := dk_79 (dk_at dksX4_opens_2 12 rfl rfl)
theorem dX4_opens_61 : decode cX4_opens 61 = .ok (.aload_n 0, 1) := dk_42 (dk_at dksX4_opens_2 13 rfl rfl)
theorem dX4_opens_62 : decode cX4_opens 62 = .ok (.getfield 66, 3) := dk_180 0 66 (dk_at dksX4_opens_2 14 rfl rfl)
theorem dX4_opens_65 : decode cX4_opens 65 = .ok (.aload_n 0, 1) := dk_42 (dk_at dksX4_opens_2 17 rfl rfl)
theorem dX4_opens_66 : decode cX4_opens 66 = .ok (.getfield 75, 3) := dk_180 0 75 (dk_at dksX4_opens_2 18 rfl rfl)
theorem dX4_opens_69 : decode cX4_opens 69 = .ok (.aload_n 0, 1) := dk_42 (dk_at dksX4_opens_2 21 rfl rfl)
theorem dX4_opens_70 : decode cX4_opens 70 = .ok (.getfield 319, 3) := dk_180 1 63 (dk_at dksX4_opens_3 0 rfl rfl)
theorem dX4_opens_73 : decode cX4_opens 73 = .ok (.iaload, 1) := dk_46 (dk_at dksX4_opens_3 3 rfl rfl)
theorem dX4_opens_74 : decode cX4_opens 74 = .ok (.iload_n 2, 1) := dk_28 (dk_at dksX4_opens_3 4 rfl rfl)
theorem dX4_opens_75 : decode cX4_opens 75 = .ok (.iadd, 1) := dk_96 (dk_at dksX4_opens_3 5 rfl rfl)
theorem dX4_opens_76 : decode cX4_opens 76 = .ok (.iconst 4, 1) := dk_7 (dk_at dksX4_opens_3 6 rfl rfl)
theorem dX4_opens_77 : decode cX4_opens 77 = .ok (.iconst 4, 1) := dk_7 (dk_at dksX4_opens_3 7 rfl rfl)
theorem dX4_opens_78 : decode cX4_opens 78 = .ok (.iload_n 1, 1) := dk_27 (dk_at dksX4_opens_3 8 rfl rfl)
theorem dX4_opens_79 : decode cX4_opens 79 = .ok (.imul, 1) := dk_104 (dk_at dksX4_opens_3 9 rfl rfl)
theorem dX4_opens_80 : decode cX4_opens 80 = .ok (.iadd, 1) := dk_96 (dk_at dksX4_opens_3 10 rfl rfl)
theorem dX4_opens_81 : decode cX4_opens 81 = .ok (.iload_n 2, 1) := dk_28 (dk_at dksX4_opens_3 11 rfl rfl)
theorem dX4_opens_82 : decode cX4_opens 82 = .ok (.iadd, 1) := dk_96 (dk_at dksX4_opens_3 12 rfl rfl)
theorem dX4_opens_83 : decode cX4_opens 83 = .ok (.iastore, 1) := dk_79 (dk_at dksX4_opens_3 13 rfl rfl)
theorem dX4_opens_84 : decode cX4_opens 84 = .ok (.iinc 2 1, 3) := dk_132 2 1 (dk_at dksX4_opens_3 14 rfl rfl)
theorem dX4_opens_87 : decode cX4_opens 87 = .ok (.goto (-48), 3) := dk_167 255 208 (dk_at dksX4_opens_3 17 rfl rfl)
theorem dX4_opens_90 : decode cX4_opens 90 = .ok (.aload_n 0, 1) := dk_42 (dk_at dksX4_opens_3 20 rfl rfl)
theorem dX4_opens_91 : decode cX4_opens 91 = .ok (.dup, 1) := dk_89 (dk_at dksX4_opens_3 21 rfl rfl)
theorem dX4_opens_92 : decode cX4_opens 92 = .ok (.getfield 322, 3) := dk_180 1 66 (dk_at dksX4_opens_4 0 rfl rfl)
theorem dX4_opens_95 : decode cX4_opens 95 = .ok (.iconst 1, 1) := dk_4 (dk_at dksX4_opens_4 3 rfl rfl)
theorem dX4_opens_96 : decode cX4_opens 96 = .ok (.iadd, 1) := dk_96 (dk_at dksX4_opens_4 4 rfl rfl)
theorem dX4_opens_97 : decode cX4_opens 97 = .ok (.putfield 322, 3) := dk_181 1 66 (dk_at dksX4_opens_4 5 rfl rfl)
theorem dX4_opens_100 : decode cX4_opens 100 = .ok (.aload_n 0, 1) := dk_42 (dk_at dksX4_opens_4 8 rfl rfl)
theorem dX4_opens_101 : decode cX4_opens 101 = .ok (.dup, 1) := dk_89 (dk_at dksX4_opens_4 9 rfl rfl)
theorem dX4_opens_102 : decode cX4_opens 102 = .ok (.getfield 319, 3) := dk_180 1 63 (dk_at dksX4_opens_4 10 rfl rfl)
theorem dX4_opens_105 : decode cX4_opens 105 = .ok (.iconst 1, 1) := dk_4 (dk_at dksX4_opens_4 13 rfl rfl)
theorem dX4_opens_106 : decode cX4_opens 106 = .ok (.iadd, 1) := dk_96 (dk_at dksX4_opens_4 14 rfl rfl)
theorem dX4_opens_107 : decode cX4_opens 107 = .ok (.putfield 319, 3) := dk_181 1 63 (dk_at dksX4_opens_4 15 rfl rfl)
theorem dX4_opens_110 : decode cX4_opens 110 = .ok (.return_, 1) := dk_177 (dk_at dksX4_opens_4 18 rfl rfl)
abbrev cX4_closes : ByteArray := prog_21_method_94_code
def yX4_closes : MethodName := ⟨RX4, "closes", "()V"⟩
def dkwX4_closes_3 : List UInt8 := [28, 46, 182, 1, 72, 27, 182, 1, 69, 177]
abbrev dktX4_closes_3 : List UInt8 := dkwX4_closes_3 ++ []
def dkwX4_closes_2 : List UInt8 := [100, 46, 104, 42, 180, 0, 72, 42, 180, 1, 63, 4, 100, 46, 96, 4, 100, 61, 42, 42, 42, 180, 0, 13]
abbrev dktX4_closes_2 : List UInt8 := dkwX4_closes_2 ++ dktX4_closes_3
def dkwX4_closes_1 : List UInt8 := [4, 100, 181, 1, 63, 42, 180, 1, 63, 154, 0, 4, 177, 16, 12, 42, 180, 0, 69, 42, 180, 1, 63, 4]
abbrev dktX4_closes_1 : List UInt8 := dkwX4_closes_1 ++ dktX4_closes_2
def dkwX4_closes_0 : List UInt8 := [42, 180, 0, 63, 42, 180, 0, 75, 42, 180, 1, 63, 4, 100, 46, 4, 96, 46, 60, 42, 89, 180, 1, 63]
abbrev dktX4_closes_0 : List UInt8 := dkwX4_closes_0 ++ dktX4_closes_1
theorem dksX4_closes_0 : cX4_closes.data.toList.drop 0 = dktX4_closes_0 := by decide +kernel
theorem dksX4_closes_1 : cX4_closes.data.toList.drop 24 = dktX4_closes_1 := dk_seg dksX4_closes_0 24 rfl rfl
theorem dksX4_closes_2 : cX4_closes.data.toList.drop 48 = dktX4_closes_2 := dk_seg dksX4_closes_1 24 rfl rfl
theorem dksX4_closes_3 : cX4_closes.data.toList.drop 72 = dktX4_closes_3 := dk_seg dksX4_closes_2 24 rfl rfl
theorem dX4_closes_0 : decode cX4_closes 0 = .ok (.aload_n 0, 1) := dk_42 (dk_at dksX4_closes_0 0 rfl rfl)
theorem dX4_closes_1 : decode cX4_closes 1 = .ok (.getfield 63, 3) := dk_180 0 63 (dk_at dksX4_closes_0 1 rfl rfl)
theorem dX4_closes_4 : decode cX4_closes 4 = .ok (.aload_n 0, 1) := dk_42 (dk_at dksX4_closes_0 4 rfl rfl)
theorem dX4_closes_5 : decode cX4_closes 5 = .ok (.getfield 75, 3) := dk_180 0 75 (dk_at dksX4_closes_0 5 rfl rfl)
theorem dX4_closes_8 : decode cX4_closes 8 = .ok (.aload_n 0, 1) := dk_42 (dk_at dksX4_closes_0 8 rfl rfl)
theorem dX4_closes_9 : decode cX4_closes 9 = .ok (.getfield 319, 3) := dk_180 1 63 (dk_at dksX4_closes_0 9 rfl rfl)
theorem dX4_closes_12 : decode cX4_closes 12 = .ok (.iconst 1, 1) := dk_4 (dk_at dksX4_closes_0 12 rfl rfl)
theorem dX4_closes_13 : decode cX4_closes 13 = .ok (.isub, 1) := dk_100 (dk_at dksX4_closes_0 13 rfl rfl)
theorem dX4_closes_14 : decode cX4_closes 14 = .ok (.iaload, 1) := dk_46 (dk_at dksX4_closes_0 14 rfl rfl)
theorem dX4_closes_15 : decode cX4_closes 15 = .ok (.iconst 1, 1) := dk_4 (dk_at dksX4_closes_0 15 rfl rfl)
theorem dX4_closes_16 : decode cX4_closes 16 = .ok (.iadd, 1) := dk_96 (dk_at dksX4_closes_0 16 rfl rfl)
theorem dX4_closes_17 : decode cX4_closes 17 = .ok (.iaload, 1) := dk_46 (dk_at dksX4_closes_0 17 rfl rfl)
theorem dX4_closes_18 : decode cX4_closes 18 = .ok (.istore_n 1, 1) := dk_60 (dk_at dksX4_closes_0 18 rfl rfl)
theorem dX4_closes_19 : decode cX4_closes 19 = .ok (.aload_n 0, 1) := dk_42 (dk_at dksX4_closes_0 19 rfl rfl)
theorem dX4_closes_20 : decode cX4_closes 20 = .ok (.dup, 1) := dk_89 (dk_at dksX4_closes_0 20 rfl rfl)
theorem dX4_closes_21 : decode cX4_closes 21 = .ok (.getfield 319, 3) := dk_180 1 63 (dk_at dksX4_closes_0 21 rfl rfl)
theorem dX4_closes_24 : decode cX4_closes 24 = .ok (.iconst 1, 1) := dk_4 (dk_at dksX4_closes_1 0 rfl rfl)
theorem dX4_closes_25 : decode cX4_closes 25 = .ok (.isub, 1) := dk_100 (dk_at dksX4_closes_1 1 rfl rfl)
theorem dX4_closes_26 : decode cX4_closes 26 = .ok (.putfield 319, 3) := dk_181 1 63 (dk_at dksX4_closes_1 2 rfl rfl)
theorem dX4_closes_29 : decode cX4_closes 29 = .ok (.aload_n 0, 1) := dk_42 (dk_at dksX4_closes_1 5 rfl rfl)
theorem dX4_closes_30 : decode cX4_closes 30 = .ok (.getfield 319, 3) := dk_180 1 63 (dk_at dksX4_closes_1 6 rfl rfl)
theorem dX4_closes_33 : decode cX4_closes 33 = .ok (.ifCond .ne 4, 3) := dk_154 0 4 (dk_at dksX4_closes_1 9 rfl rfl)
theorem dX4_closes_36 : decode cX4_closes 36 = .ok (.return_, 1) := dk_177 (dk_at dksX4_closes_1 12 rfl rfl)
theorem dX4_closes_37 : decode cX4_closes 37 = .ok (.bipush 12, 2) := dk_16 12 (dk_at dksX4_closes_1 13 rfl rfl)
theorem dX4_closes_39 : decode cX4_closes 39 = .ok (.aload_n 0, 1) := dk_42 (dk_at dksX4_closes_1 15 rfl rfl)
theorem dX4_closes_40 : decode cX4_closes 40 = .ok (.getfield 69, 3) := dk_180 0 69 (dk_at dksX4_closes_1 16 rfl rfl)
theorem dX4_closes_43 : decode cX4_closes 43 = .ok (.aload_n 0, 1) := dk_42 (dk_at dksX4_closes_1 19 rfl rfl)
theorem dX4_closes_44 : decode cX4_closes 44 = .ok (.getfield 319, 3) := dk_180 1 63 (dk_at dksX4_closes_1 20 rfl rfl)
theorem dX4_closes_47 : decode cX4_closes 47 = .ok (.iconst 1, 1) := dk_4 (dk_at dksX4_closes_1 23 rfl rfl)
theorem dX4_closes_48 : decode cX4_closes 48 = .ok (.isub, 1) := dk_100 (dk_at dksX4_closes_2 0 rfl rfl)
theorem dX4_closes_49 : decode cX4_closes 49 = .ok (.iaload, 1) := dk_46 (dk_at dksX4_closes_2 1 rfl rfl)
theorem dX4_closes_50 : decode cX4_closes 50 = .ok (.imul, 1) := dk_104 (dk_at dksX4_closes_2 2 rfl rfl)
theorem dX4_closes_51 : decode cX4_closes 51 = .ok (.aload_n 0, 1) := dk_42 (dk_at dksX4_closes_2 3 rfl rfl)
theorem dX4_closes_52 : decode cX4_closes 52 = .ok (.getfield 72, 3) := dk_180 0 72 (dk_at dksX4_closes_2 4 rfl rfl)
theorem dX4_closes_55 : decode cX4_closes 55 = .ok (.aload_n 0, 1) := dk_42 (dk_at dksX4_closes_2 7 rfl rfl)
theorem dX4_closes_56 : decode cX4_closes 56 = .ok (.getfield 319, 3) := dk_180 1 63 (dk_at dksX4_closes_2 8 rfl rfl)
theorem dX4_closes_59 : decode cX4_closes 59 = .ok (.iconst 1, 1) := dk_4 (dk_at dksX4_closes_2 11 rfl rfl)
theorem dX4_closes_60 : decode cX4_closes 60 = .ok (.isub, 1) := dk_100 (dk_at dksX4_closes_2 12 rfl rfl)
theorem dX4_closes_61 : decode cX4_closes 61 = .ok (.iaload, 1) := dk_46 (dk_at dksX4_closes_2 13 rfl rfl)
theorem dX4_closes_62 : decode cX4_closes 62 = .ok (.iadd, 1) := dk_96 (dk_at dksX4_closes_2 14 rfl rfl)
theorem dX4_closes_63 : decode cX4_closes 63 = .ok (.iconst 1, 1) := dk_4 (dk_at dksX4_closes_2 15 rfl rfl)
theorem dX4_closes_64 : decode cX4_closes 64 = .ok (.isub, 1) := dk_100 (dk_at dksX4_closes_2 16 rfl rfl)
theorem dX4_closes_65 : decode cX4_closes 65 = .ok (.istore_n 2, 1) := dk_61 (dk_at dksX4_closes_2 17 rfl rfl)
theorem dX4_closes_66 : decode cX4_closes 66 = .ok (.aload_n 0, 1) := dk_42 (dk_at dksX4_closes_2 18 rfl rfl)
theorem dX4_closes_67 : decode cX4_closes 67 = .ok (.aload_n 0, 1) := dk_42 (dk_at dksX4_closes_2 19 rfl rfl)
theorem dX4_closes_68 : decode cX4_closes 68 = .ok (.aload_n 0, 1) := dk_42 (dk_at dksX4_closes_2 20 rfl rfl)
theorem dX4_closes_69 : decode cX4_closes 69 = .ok (.getfield 13, 3) := dk_180 0 13 (dk_at dksX4_closes_2 21 rfl rfl)
theorem dX4_closes_72 : decode cX4_closes 72 = .ok (.iload_n 2, 1) := dk_28 (dk_at dksX4_closes_3 0 rfl rfl)
theorem dX4_closes_73 : decode cX4_closes 73 = .ok (.iaload, 1) := dk_46 (dk_at dksX4_closes_3 1 rfl rfl)
theorem dX4_closes_74 : decode cX4_closes 74 = .ok (.invokevirtual 328, 3) := dk_182 1 72 (dk_at dksX4_closes_3 2 rfl rfl)
theorem dX4_closes_77 : decode cX4_closes 77 = .ok (.iload_n 1, 1) := dk_27 (dk_at dksX4_closes_3 5 rfl rfl)
theorem dX4_closes_78 : decode cX4_closes 78 = .ok (.invokevirtual 325, 3) := dk_182 1 69 (dk_at dksX4_closes_3 6 rfl rfl)
theorem dX4_closes_81 : decode cX4_closes 81 = .ok (.return_, 1) := dk_177 (dk_at dksX4_closes_3 9 rfl rfl)
abbrev cX4_placeIn : ByteArray := prog_21_method_89_code
def yX4_placeIn : MethodName := ⟨RX4, "placeIn", "(I)I"⟩
def dkwX4_placeIn_1 : List UInt8 := [172]
abbrev dktX4_placeIn_1 : List UInt8 := dkwX4_placeIn_1 ++ []
def dkwX4_placeIn_0 : List UInt8 := [27, 7, 162, 0, 7, 27, 167, 0, 18, 42, 180, 0, 75, 42, 180, 1, 63, 4, 100, 46, 27, 7, 112, 96]
abbrev dktX4_placeIn_0 : List UInt8 := dkwX4_placeIn_0 ++ dktX4_placeIn_1
theorem dksX4_placeIn_0 : cX4_placeIn.data.toList.drop 0 = dktX4_placeIn_0 := by decide +kernel
theorem dksX4_placeIn_1 : cX4_placeIn.data.toList.drop 24 = dktX4_placeIn_1 := dk_seg dksX4_placeIn_0 24 rfl rfl
theorem dX4_placeIn_0 : decode cX4_placeIn 0 = .ok (.iload_n 1, 1) := dk_27 (dk_at dksX4_placeIn_0 0 rfl rfl)
theorem dX4_placeIn_1 : decode cX4_placeIn 1 = .ok (.iconst 4, 1) := dk_7 (dk_at dksX4_placeIn_0 1 rfl rfl)
theorem dX4_placeIn_2 : decode cX4_placeIn 2 = .ok (.if_icmp .ge 7, 3) := dk_162 0 7 (dk_at dksX4_placeIn_0 2 rfl rfl)
theorem dX4_placeIn_5 : decode cX4_placeIn 5 = .ok (.iload_n 1, 1) := dk_27 (dk_at dksX4_placeIn_0 5 rfl rfl)
theorem dX4_placeIn_6 : decode cX4_placeIn 6 = .ok (.goto 18, 3) := dk_167 0 18 (dk_at dksX4_placeIn_0 6 rfl rfl)
theorem dX4_placeIn_9 : decode cX4_placeIn 9 = .ok (.aload_n 0, 1) := dk_42 (dk_at dksX4_placeIn_0 9 rfl rfl)
theorem dX4_placeIn_10 : decode cX4_placeIn 10 = .ok (.getfield 75, 3) := dk_180 0 75 (dk_at dksX4_placeIn_0 10 rfl rfl)
theorem dX4_placeIn_13 : decode cX4_placeIn 13 = .ok (.aload_n 0, 1) := dk_42 (dk_at dksX4_placeIn_0 13 rfl rfl)
theorem dX4_placeIn_14 : decode cX4_placeIn 14 = .ok (.getfield 319, 3) := dk_180 1 63 (dk_at dksX4_placeIn_0 14 rfl rfl)
theorem dX4_placeIn_17 : decode cX4_placeIn 17 = .ok (.iconst 1, 1) := dk_4 (dk_at dksX4_placeIn_0 17 rfl rfl)
theorem dX4_placeIn_18 : decode cX4_placeIn 18 = .ok (.isub, 1) := dk_100 (dk_at dksX4_placeIn_0 18 rfl rfl)
theorem dX4_placeIn_19 : decode cX4_placeIn 19 = .ok (.iaload, 1) := dk_46 (dk_at dksX4_placeIn_0 19 rfl rfl)
theorem dX4_placeIn_20 : decode cX4_placeIn 20 = .ok (.iload_n 1, 1) := dk_27 (dk_at dksX4_placeIn_0 20 rfl rfl)
theorem dX4_placeIn_21 : decode cX4_placeIn 21 = .ok (.iconst 4, 1) := dk_7 (dk_at dksX4_placeIn_0 21 rfl rfl)
theorem dX4_placeIn_22 : decode cX4_placeIn 22 = .ok (.irem, 1) := dk_112 (dk_at dksX4_placeIn_0 22 rfl rfl)
theorem dX4_placeIn_23 : decode cX4_placeIn 23 = .ok (.iadd, 1) := dk_96 (dk_at dksX4_placeIn_0 23 rfl rfl)
theorem dX4_placeIn_24 : decode cX4_placeIn 24 = .ok (.ireturn, 1) := dk_172 (dk_at dksX4_placeIn_1 0 rfl rfl)
abbrev cX4_assigns : ByteArray := prog_21_method_88_code
def yX4_assigns : MethodName := ⟨RX4, "assigns", "(II)V"⟩
def dkwX4_assigns_1 : List UInt8 := [42, 180, 0, 66, 28, 4, 100, 46, 121, 129, 80, 177]
abbrev dktX4_assigns_1 : List UInt8 := dkwX4_assigns_1 ++ []
def dkwX4_assigns_0 : List UInt8 := [42, 180, 0, 63, 27, 28, 79, 28, 158, 0, 27, 42, 180, 0, 78, 42, 180, 0, 66, 27, 46, 92, 47, 10]
abbrev dktX4_assigns_0 : List UInt8 := dkwX4_assigns_0 ++ dktX4_assigns_1
theorem dksX4_assigns_0 : cX4_assigns.data.toList.drop 0 = dktX4_assigns_0 := by decide +kernel
theorem dksX4_assigns_1 : cX4_assigns.data.toList.drop 24 = dktX4_assigns_1 := dk_seg dksX4_assigns_0 24 rfl rfl
theorem dX4_assigns_0 : decode cX4_assigns 0 = .ok (.aload_n 0, 1) := dk_42 (dk_at dksX4_assigns_0 0 rfl rfl)
theorem dX4_assigns_1 : decode cX4_assigns 1 = .ok (.getfield 63, 3) := dk_180 0 63 (dk_at dksX4_assigns_0 1 rfl rfl)
theorem dX4_assigns_4 : decode cX4_assigns 4 = .ok (.iload_n 1, 1) := dk_27 (dk_at dksX4_assigns_0 4 rfl rfl)
theorem dX4_assigns_5 : decode cX4_assigns 5 = .ok (.iload_n 2, 1) := dk_28 (dk_at dksX4_assigns_0 5 rfl rfl)
theorem dX4_assigns_6 : decode cX4_assigns 6 = .ok (.iastore, 1) := dk_79 (dk_at dksX4_assigns_0 6 rfl rfl)
theorem dX4_assigns_7 : decode cX4_assigns 7 = .ok (.iload_n 2, 1) := dk_28 (dk_at dksX4_assigns_0 7 rfl rfl)
theorem dX4_assigns_8 : decode cX4_assigns 8 = .ok (.ifCond .le 27, 3) := dk_158 0 27 (dk_at dksX4_assigns_0 8 rfl rfl)
theorem dX4_assigns_11 : decode cX4_assigns 11 = .ok (.aload_n 0, 1) := dk_42 (dk_at dksX4_assigns_0 11 rfl rfl)
theorem dX4_assigns_12 : decode cX4_assigns 12 = .ok (.getfield 78, 3) := dk_180 0 78 (dk_at dksX4_assigns_0 12 rfl rfl)
theorem dX4_assigns_15 : decode cX4_assigns 15 = .ok (.aload_n 0, 1) := dk_42 (dk_at dksX4_assigns_0 15 rfl rfl)
theorem dX4_assigns_16 : decode cX4_assigns 16 = .ok (.getfield 66, 3) := dk_180 0 66 (dk_at dksX4_assigns_0 16 rfl rfl)
theorem dX4_assigns_19 : decode cX4_assigns 19 = .ok (.iload_n 1, 1) := dk_27 (dk_at dksX4_assigns_0 19 rfl rfl)
theorem dX4_assigns_20 : decode cX4_assigns 20 = .ok (.iaload, 1) := dk_46 (dk_at dksX4_assigns_0 20 rfl rfl)
theorem dX4_assigns_21 : decode cX4_assigns 21 = .ok (.dup2, 1) := dk_92 (dk_at dksX4_assigns_0 21 rfl rfl)
theorem dX4_assigns_22 : decode cX4_assigns 22 = .ok (.laload, 1) := dk_47 (dk_at dksX4_assigns_0 22 rfl rfl)
theorem dX4_assigns_23 : decode cX4_assigns 23 = .ok (.lconst 1, 1) := dk_10 (dk_at dksX4_assigns_0 23 rfl rfl)
theorem dX4_assigns_24 : decode cX4_assigns 24 = .ok (.aload_n 0, 1) := dk_42 (dk_at dksX4_assigns_1 0 rfl rfl)
theorem dX4_assigns_25 : decode cX4_assigns 25 = .ok (.getfield 66, 3) := dk_180 0 66 (dk_at dksX4_assigns_1 1 rfl rfl)
theorem dX4_assigns_28 : decode cX4_assigns 28 = .ok (.iload_n 2, 1) := dk_28 (dk_at dksX4_assigns_1 4 rfl rfl)
theorem dX4_assigns_29 : decode cX4_assigns 29 = .ok (.iconst 1, 1) := dk_4 (dk_at dksX4_assigns_1 5 rfl rfl)
theorem dX4_assigns_30 : decode cX4_assigns 30 = .ok (.isub, 1) := dk_100 (dk_at dksX4_assigns_1 6 rfl rfl)
theorem dX4_assigns_31 : decode cX4_assigns 31 = .ok (.iaload, 1) := dk_46 (dk_at dksX4_assigns_1 7 rfl rfl)
theorem dX4_assigns_32 : decode cX4_assigns 32 = .ok (.lshl, 1) := dk_121 (dk_at dksX4_assigns_1 8 rfl rfl)
theorem dX4_assigns_33 : decode cX4_assigns 33 = .ok (.lor, 1) := dk_129 (dk_at dksX4_assigns_1 9 rfl rfl)
theorem dX4_assigns_34 : decode cX4_assigns 34 = .ok (.lastore, 1) := dk_80 (dk_at dksX4_assigns_1 10 rfl rfl)
theorem dX4_assigns_35 : decode cX4_assigns 35 = .ok (.return_, 1) := dk_177 (dk_at dksX4_assigns_1 11 rfl rfl)
abbrev cX4_executes : ByteArray := prog_21_method_93_code
def yX4_executes : MethodName := ⟨RX4, "executes", "(I)V"⟩
def dkwX4_executes_11 : List UInt8 := [180, 1, 63, 4, 100, 46, 42, 180, 0, 63, 29, 46, 182, 1, 69, 177]
abbrev dktX4_executes_11 : List UInt8 := dkwX4_executes_11 ++ []
def dkwX4_executes_10 : List UInt8 := [160, 0, 6, 167, 0, 34, 42, 42, 180, 0, 19, 27, 46, 182, 1, 85, 42, 42, 180, 0, 75, 42]
abbrev dktX4_executes_10 : List UInt8 := dkwX4_executes_10 ++ dktX4_executes_11
def dkwX4_executes_9 : List UInt8 := [27, 46, 182, 1, 78, 167, 0, 56, 42, 180, 1, 63, 16, 6, 159, 0, 47, 42, 180, 1, 82, 17, 0, 200]
abbrev dktX4_executes_9 : List UInt8 := dkwX4_executes_9 ++ dktX4_executes_10
def dkwX4_executes_8 : List UInt8 := [182, 0, 206, 182, 1, 75, 182, 1, 69, 167, 0, 76, 42, 28, 42, 180, 0, 63, 29, 46, 42, 180, 0, 19]
abbrev dktX4_executes_8 : List UInt8 := dkwX4_executes_8 ++ dktX4_executes_9
def dkwX4_executes_7 : List UInt8 := [180, 0, 63, 28, 46, 4, 100, 42, 180, 0, 63, 29, 46, 182, 1, 69, 167, 0, 93, 42, 28, 42, 42, 27]
abbrev dktX4_executes_7 : List UInt8 := dkwX4_executes_7 ++ dktX4_executes_8
def dkwX4_executes_6 : List UInt8 := [42, 180, 0, 63, 28, 46, 154, 0, 16, 42, 89, 180, 1, 57, 4, 96, 181, 1, 57, 167, 0, 114, 42, 42]
abbrev dktX4_executes_6 : List UInt8 := dkwX4_executes_6 ++ dktX4_executes_7
def dkwX4_executes_5 : List UInt8 := [167, 0, 157, 42, 28, 42, 180, 0, 63, 42, 180, 0, 63, 29, 46, 4, 100, 46, 182, 1, 69, 167, 0, 136]
abbrev dktX4_executes_5 : List UInt8 := dkwX4_executes_5 ++ dktX4_executes_6
def dkwX4_executes_4 : List UInt8 := [167, 0, 179, 42, 180, 0, 63, 29, 46, 154, 0, 16, 42, 89, 180, 1, 57, 4, 96, 181, 1, 57]
abbrev dktX4_executes_4 : List UInt8 := dkwX4_executes_4 ++ dktX4_executes_5
def dkwX4_executes_3 : List UInt8 := [42, 28, 29, 4, 96, 182, 1, 69, 167, 0, 193, 42, 28, 42, 180, 0, 63, 29, 46, 182, 1, 69]
abbrev dktX4_executes_3 : List UInt8 := dkwX4_executes_3 ++ dktX4_executes_4
def dkwX4_executes_2 : List UInt8 := [170, 0, 0, 0, 0, 0, 0, 188, 0, 0, 0, 0, 0, 0, 0, 5, 0, 0, 0, 40, 0, 0, 0, 51, 0, 0, 0, 65, 0, 0, 0, 108, 0, 0, 0, 151, 0, 0, 0, 168]
abbrev dktX4_executes_2 : List UInt8 := dkwX4_executes_2 ++ dktX4_executes_3
def dkwX4_executes_1 : List UInt8 := [180, 0, 7, 27, 46]
abbrev dktX4_executes_1 : List UInt8 := dkwX4_executes_1 ++ dktX4_executes_2
def dkwX4_executes_0 : List UInt8 := [42, 42, 180, 0, 13, 27, 46, 182, 1, 72, 61, 42, 42, 180, 0, 16, 27, 46, 182, 1, 72, 62, 42]
abbrev dktX4_executes_0 : List UInt8 := dkwX4_executes_0 ++ dktX4_executes_1
theorem dksX4_executes_0 : cX4_executes.data.toList.drop 0 = dktX4_executes_0 := by decide +kernel
theorem dksX4_executes_1 : cX4_executes.data.toList.drop 23 = dktX4_executes_1 := dk_seg dksX4_executes_0 23 rfl rfl
theorem dksX4_executes_2 : cX4_executes.data.toList.drop 28 = dktX4_executes_2 := dk_seg dksX4_executes_1 5 rfl rfl
theorem dksX4_executes_3 : cX4_executes.data.toList.drop 68 = dktX4_executes_3 := dk_seg dksX4_executes_2 40 rfl rfl
theorem dksX4_executes_4 : cX4_executes.data.toList.drop 90 = dktX4_executes_4 := dk_seg dksX4_executes_3 22 rfl rfl
theorem dksX4_executes_5 : cX4_executes.data.toList.drop 112 = dktX4_executes_5 := dk_seg dksX4_executes_4 22 rfl rfl
theorem dksX4_executes_6 : cX4_executes.data.toList.drop 136 = dktX4_executes_6 := dk_seg dksX4_executes_5 24 rfl rfl
theorem dksX4_executes_7 : cX4_executes.data.toList.drop 160 = dktX4_executes_7 := dk_seg dksX4_executes_6 24 rfl rfl
theorem dksX4_executes_8 : cX4_executes.data.toList.drop 184 = dktX4_executes_8 := dk_seg dksX4_executes_7 24 rfl rfl
theorem dksX4_executes_9 : cX4_executes.data.toList.drop 208 = dktX4_executes_9 := dk_seg dksX4_executes_8 24 rfl rfl
theorem dksX4_executes_10 : cX4_executes.data.toList.drop 232 = dktX4_executes_10 := dk_seg dksX4_executes_9 24 rfl rfl
theorem dksX4_executes_11 : cX4_executes.data.toList.drop 254 = dktX4_executes_11 := dk_seg dksX4_executes_10 22 rfl rfl
theorem dX4_executes_0 : decode cX4_executes 0 = .ok (.aload_n 0, 1) := dk_42 (dk_at dksX4_executes_0 0 rfl rfl)
theorem dX4_executes_1 : decode cX4_executes 1 = .ok (.aload_n 0, 1) := dk_42 (dk_at dksX4_executes_0 1 rfl rfl)
theorem dX4_executes_2 : decode cX4_executes 2 = .ok (.getfield 13, 3) := dk_180 0 13 (dk_at dksX4_executes_0 2 rfl rfl)
theorem dX4_executes_5 : decode cX4_executes 5 = .ok (.iload_n 1, 1) := dk_27 (dk_at dksX4_executes_0 5 rfl rfl)
theorem dX4_executes_6 : decode cX4_executes 6 = .ok (.iaload, 1) := dk_46 (dk_at dksX4_executes_0 6 rfl rfl)
theorem dX4_executes_7 : decode cX4_executes 7 = .ok (.invokevirtual 328, 3) := dk_182 1 72 (dk_at dksX4_executes_0 7 rfl rfl)
theorem dX4_executes_10 : decode cX4_executes 10 = .ok (.istore_n 2, 1) := dk_61 (dk_at dksX4_executes_0 10 rfl rfl)
theorem dX4_executes_11 : decode cX4_executes 11 = .ok (.aload_n 0, 1) := dk_42 (dk_at dksX4_executes_0 11 rfl rfl)
theorem dX4_executes_12 : decode cX4_executes 12 = .ok (.aload_n 0, 1) := dk_42 (dk_at dksX4_executes_0 12 rfl rfl)
theorem dX4_executes_13 : decode cX4_executes 13 = .ok (.getfield 16, 3) := dk_180 0 16 (dk_at dksX4_executes_0 13 rfl rfl)
theorem dX4_executes_16 : decode cX4_executes 16 = .ok (.iload_n 1, 1) := dk_27 (dk_at dksX4_executes_0 16 rfl rfl)
theorem dX4_executes_17 : decode cX4_executes 17 = .ok (.iaload, 1) := dk_46 (dk_at dksX4_executes_0 17 rfl rfl)
theorem dX4_executes_18 : decode cX4_executes 18 = .ok (.invokevirtual 328, 3) := dk_182 1 72 (dk_at dksX4_executes_0 18 rfl rfl)
theorem dX4_executes_21 : decode cX4_executes 21 = .ok (.istore_n 3, 1) := dk_62 (dk_at dksX4_executes_0 21 rfl rfl)
theorem dX4_executes_22 : decode cX4_executes 22 = .ok (.aload_n 0, 1) := dk_42 (dk_at dksX4_executes_0 22 rfl rfl)
theorem dX4_executes_23 : decode cX4_executes 23 = .ok (.getfield 7, 3) := dk_180 0 7 (dk_at dksX4_executes_1 0 rfl rfl)
theorem dX4_executes_26 : decode cX4_executes 26 = .ok (.iload_n 1, 1) := dk_27 (dk_at dksX4_executes_1 3 rfl rfl)
theorem dX4_executes_27 : decode cX4_executes 27 = .ok (.iaload, 1) := dk_46 (dk_at dksX4_executes_1 4 rfl rfl)
theorem dX4_executes_28 : decode cX4_executes 28 = .ok (.tableswitch 188 0 5 #[40, 51, 65, 108, 151, 168], 40) := by decide +kernel
theorem dX4_executes_68 : decode cX4_executes 68 = .ok (.aload_n 0, 1) := dk_42 (dk_at dksX4_executes_3 0 rfl rfl)
theorem dX4_executes_69 : decode cX4_executes 69 = .ok (.iload_n 2, 1) := dk_28 (dk_at dksX4_executes_3 1 rfl rfl)
theorem dX4_executes_70 : decode cX4_executes 70 = .ok (.iload_n 3, 1) := dk_29 (dk_at dksX4_executes_3 2 rfl rfl)
theorem dX4_executes_71 : decode cX4_executes 71 = .ok (.iconst 1, 1) := dk_4 (dk_at dksX4_executes_3 3 rfl rfl)
theorem dX4_executes_72 : decode cX4_executes 72 = .ok (.iadd, 1) := dk_96 (dk_at dksX4_executes_3 4 rfl rfl)
theorem dX4_executes_73 : decode cX4_executes 73 = .ok (.invokevirtual 325, 3) := dk_182 1 69 (dk_at dksX4_executes_3 5 rfl rfl)
theorem dX4_executes_76 : decode cX4_executes 76 = .ok (.goto 193, 3) := dk_167 0 193 (dk_at dksX4_executes_3 8 rfl rfl)
theorem dX4_executes_79 : decode cX4_executes 79 = .ok (.aload_n 0, 1) := dk_42 (dk_at dksX4_executes_3 11 rfl rfl)
theorem dX4_executes_80 : decode cX4_executes 80 = .ok (.iload_n 2, 1) := dk_28 (dk_at dksX4_executes_3 12 rfl rfl)
theorem dX4_executes_81 : decode cX4_executes 81 = .ok (.aload_n 0, 1) := dk_42 (dk_at dksX4_executes_3 13 rfl rfl)
theorem dX4_executes_82 : decode cX4_executes 82 = .ok (.getfield 63, 3) := dk_180 0 63 (dk_at dksX4_executes_3 14 rfl rfl)
theorem dX4_executes_85 : decode cX4_executes 85 = .ok (.iload_n 3, 1) := dk_29 (dk_at dksX4_executes_3 17 rfl rfl)
theorem dX4_executes_86 : decode cX4_executes 86 = .ok (.iaload, 1) := dk_46 (dk_at dksX4_executes_3 18 rfl rfl)
theorem dX4_executes_87 : decode cX4_executes 87 = .ok (.invokevirtual 325, 3) := dk_182 1 69 (dk_at dksX4_executes_3 19 rfl rfl)
theorem dX4_executes_90 : decode cX4_executes 90 = .ok (.goto 179, 3) := dk_167 0 179 (dk_at dksX4_executes_4 0 rfl rfl)
theorem dX4_executes_93 : decode cX4_executes 93 = .ok (.aload_n 0, 1) := dk_42 (dk_at dksX4_executes_4 3 rfl rfl)
theorem dX4_executes_94 : decode cX4_executes 94 = .ok (.getfield 63, 3) := dk_180 0 63 (dk_at dksX4_executes_4 4 rfl rfl)
theorem dX4_executes_97 : decode cX4_executes 97 = .ok (.iload_n 3, 1) := dk_29 (dk_at dksX4_executes_4 7 rfl rfl)
theorem dX4_executes_98 : decode cX4_executes 98 = .ok (.iaload, 1) := dk_46 (dk_at dksX4_executes_4 8 rfl rfl)
theorem dX4_executes_99 : decode cX4_executes 99 = .ok (.ifCond .ne 16, 3) := dk_154 0 16 (dk_at dksX4_executes_4 9 rfl rfl)
theorem dX4_executes_102 : decode cX4_executes 102 = .ok (.aload_n 0, 1) := dk_42 (dk_at dksX4_executes_4 12 rfl rfl)
theorem dX4_executes_103 : decode cX4_executes 103 = .ok (.dup, 1) := dk_89 (dk_at dksX4_executes_4 13 rfl rfl)
theorem dX4_executes_104 : decode cX4_executes 104 = .ok (.getfield 313, 3) := dk_180 1 57 (dk_at dksX4_executes_4 14 rfl rfl)
theorem dX4_executes_107 : decode cX4_executes 107 = .ok (.iconst 1, 1) := dk_4 (dk_at dksX4_executes_4 17 rfl rfl)
theorem dX4_executes_108 : decode cX4_executes 108 = .ok (.iadd, 1) := dk_96 (dk_at dksX4_executes_4 18 rfl rfl)
theorem dX4_executes_109 : decode cX4_executes 109 = .ok (.putfield 313, 3) := dk_181 1 57 (dk_at dksX4_executes_4 19 rfl rfl)
theorem dX4_executes_112 : decode cX4_executes 112 = .ok (.goto 157, 3) := dk_167 0 157 (dk_at dksX4_executes_5 0 rfl rfl)
theorem dX4_executes_115 : decode cX4_executes 115 = .ok (.aload_n 0, 1) := dk_42 (dk_at dksX4_executes_5 3 rfl rfl)
theorem dX4_executes_116 : decode cX4_executes 116 = .ok (.iload_n 2, 1) := dk_28 (dk_at dksX4_executes_5 4 rfl rfl)
theorem dX4_executes_117 : decode cX4_executes 117 = .ok (.aload_n 0, 1) := dk_42 (dk_at dksX4_executes_5 5 rfl rfl)
theorem dX4_executes_118 : decode cX4_executes 118 = .ok (.getfield 63, 3) := dk_180 0 63 (dk_at dksX4_executes_5 6 rfl rfl)
theorem dX4_executes_121 : decode cX4_executes 121 = .ok (.aload_n 0, 1) := dk_42 (dk_at dksX4_executes_5 9 rfl rfl)
theorem dX4_executes_122 : decode cX4_executes 122 = .ok (.getfield 63, 3) := dk_180 0 63 (dk_at dksX4_executes_5 10 rfl rfl)
theorem dX4_executes_125 : decode cX4_executes 125 = .ok (.iload_n 3, 1) := dk_29 (dk_at dksX4_executes_5 13 rfl rfl)
theorem dX4_executes_126 : decode cX4_executes 126 = .ok (.iaload, 1) := dk_46 (dk_at dksX4_executes_5 14 rfl rfl)
theorem dX4_executes_127 : decode cX4_executes 127 = .ok (.iconst 1, 1) := dk_4 (dk_at dksX4_executes_5 15 rfl rfl)
theorem dX4_executes_128 : decode cX4_executes 128 = .ok (.isub, 1) := dk_100 (dk_at dksX4_executes_5 16 rfl rfl)
theorem dX4_executes_129 : decode cX4_executes 129 = .ok (.iaload, 1) := dk_46 (dk_at dksX4_executes_5 17 rfl rfl)
theorem dX4_executes_130 : decode cX4_executes 130 = .ok (.invokevirtual 325, 3) := dk_182 1 69 (dk_at dksX4_executes_5 18 rfl rfl)
theorem dX4_executes_133 : decode cX4_executes 133 = .ok (.goto 136, 3) := dk_167 0 136 (dk_at dksX4_executes_5 21 rfl rfl)
theorem dX4_executes_136 : decode cX4_executes 136 = .ok (.aload_n 0, 1) := dk_42 (dk_at dksX4_executes_6 0 rfl rfl)
theorem dX4_executes_137 : decode cX4_executes 137 = .ok (.getfield 63, 3) := dk_180 0 63 (dk_at dksX4_executes_6 1 rfl rfl)
theorem dX4_executes_140 : decode cX4_executes 140 = .ok (.iload_n 2, 1) := dk_28 (dk_at dksX4_executes_6 4 rfl rfl)
theorem dX4_executes_141 : decode cX4_executes 141 = .ok (.iaload, 1) := dk_46 (dk_at dksX4_executes_6 5 rfl rfl)
theorem dX4_executes_142 : decode cX4_executes 142 = .ok (.ifCond .ne 16, 3) := dk_154 0 16 (dk_at dksX4_executes_6 6 rfl rfl)
theorem dX4_executes_145 : decode cX4_executes 145 = .ok (.aload_n 0, 1) := dk_42 (dk_at dksX4_executes_6 9 rfl rfl)
theorem dX4_executes_146 : decode cX4_executes 146 = .ok (.dup, 1) := dk_89 (dk_at dksX4_executes_6 10 rfl rfl)
theorem dX4_executes_147 : decode cX4_executes 147 = .ok (.getfield 313, 3) := dk_180 1 57 (dk_at dksX4_executes_6 11 rfl rfl)
theorem dX4_executes_150 : decode cX4_executes 150 = .ok (.iconst 1, 1) := dk_4 (dk_at dksX4_executes_6 14 rfl rfl)
theorem dX4_executes_151 : decode cX4_executes 151 = .ok (.iadd, 1) := dk_96 (dk_at dksX4_executes_6 15 rfl rfl)
theorem dX4_executes_152 : decode cX4_executes 152 = .ok (.putfield 313, 3) := dk_181 1 57 (dk_at dksX4_executes_6 16 rfl rfl)
theorem dX4_executes_155 : decode cX4_executes 155 = .ok (.goto 114, 3) := dk_167 0 114 (dk_at dksX4_executes_6 19 rfl rfl)
theorem dX4_executes_158 : decode cX4_executes 158 = .ok (.aload_n 0, 1) := dk_42 (dk_at dksX4_executes_6 22 rfl rfl)
theorem dX4_executes_159 : decode cX4_executes 159 = .ok (.aload_n 0, 1) := dk_42 (dk_at dksX4_executes_6 23 rfl rfl)
theorem dX4_executes_160 : decode cX4_executes 160 = .ok (.getfield 63, 3) := dk_180 0 63 (dk_at dksX4_executes_7 0 rfl rfl)
theorem dX4_executes_163 : decode cX4_executes 163 = .ok (.iload_n 2, 1) := dk_28 (dk_at dksX4_executes_7 3 rfl rfl)
theorem dX4_executes_164 : decode cX4_executes 164 = .ok (.iaload, 1) := dk_46 (dk_at dksX4_executes_7 4 rfl rfl)
theorem dX4_executes_165 : decode cX4_executes 165 = .ok (.iconst 1, 1) := dk_4 (dk_at dksX4_executes_7 5 rfl rfl)
theorem dX4_executes_166 : decode cX4_executes 166 = .ok (.isub, 1) := dk_100 (dk_at dksX4_executes_7 6 rfl rfl)
theorem dX4_executes_167 : decode cX4_executes 167 = .ok (.aload_n 0, 1) := dk_42 (dk_at dksX4_executes_7 7 rfl rfl)
theorem dX4_executes_168 : decode cX4_executes 168 = .ok (.getfield 63, 3) := dk_180 0 63 (dk_at dksX4_executes_7 8 rfl rfl)
theorem dX4_executes_171 : decode cX4_executes 171 = .ok (.iload_n 3, 1) := dk_29 (dk_at dksX4_executes_7 11 rfl rfl)
theorem dX4_executes_172 : decode cX4_executes 172 = .ok (.iaload, 1) := dk_46 (dk_at dksX4_executes_7 12 rfl rfl)
theorem dX4_executes_173 : decode cX4_executes 173 = .ok (.invokevirtual 325, 3) := dk_182 1 69 (dk_at dksX4_executes_7 13 rfl rfl)
theorem dX4_executes_176 : decode cX4_executes 176 = .ok (.goto 93, 3) := dk_167 0 93 (dk_at dksX4_executes_7 16 rfl rfl)
theorem dX4_executes_179 : decode cX4_executes 179 = .ok (.aload_n 0, 1) := dk_42 (dk_at dksX4_executes_7 19 rfl rfl)
theorem dX4_executes_180 : decode cX4_executes 180 = .ok (.iload_n 2, 1) := dk_28 (dk_at dksX4_executes_7 20 rfl rfl)
theorem dX4_executes_181 : decode cX4_executes 181 = .ok (.aload_n 0, 1) := dk_42 (dk_at dksX4_executes_7 21 rfl rfl)
theorem dX4_executes_182 : decode cX4_executes 182 = .ok (.aload_n 0, 1) := dk_42 (dk_at dksX4_executes_7 22 rfl rfl)
theorem dX4_executes_183 : decode cX4_executes 183 = .ok (.iload_n 1, 1) := dk_27 (dk_at dksX4_executes_7 23 rfl rfl)
theorem dX4_executes_184 : decode cX4_executes 184 = .ok (.invokevirtual 206, 3) := dk_182 0 206 (dk_at dksX4_executes_8 0 rfl rfl)
theorem dX4_executes_187 : decode cX4_executes 187 = .ok (.invokevirtual 331, 3) := dk_182 1 75 (dk_at dksX4_executes_8 3 rfl rfl)
theorem dX4_executes_190 : decode cX4_executes 190 = .ok (.invokevirtual 325, 3) := dk_182 1 69 (dk_at dksX4_executes_8 6 rfl rfl)
theorem dX4_executes_193 : decode cX4_executes 193 = .ok (.goto 76, 3) := dk_167 0 76 (dk_at dksX4_executes_8 9 rfl rfl)
theorem dX4_executes_196 : decode cX4_executes 196 = .ok (.aload_n 0, 1) := dk_42 (dk_at dksX4_executes_8 12 rfl rfl)
theorem dX4_executes_197 : decode cX4_executes 197 = .ok (.iload_n 2, 1) := dk_28 (dk_at dksX4_executes_8 13 rfl rfl)
theorem dX4_executes_198 : decode cX4_executes 198 = .ok (.aload_n 0, 1) := dk_42 (dk_at dksX4_executes_8 14 rfl rfl)
theorem dX4_executes_199 : decode cX4_executes 199 = .ok (.getfield 63, 3) := dk_180 0 63 (dk_at dksX4_executes_8 15 rfl rfl)
theorem dX4_executes_202 : decode cX4_executes 202 = .ok (.iload_n 3, 1) := dk_29 (dk_at dksX4_executes_8 18 rfl rfl)
theorem dX4_executes_203 : decode cX4_executes 203 = .ok (.iaload, 1) := dk_46 (dk_at dksX4_executes_8 19 rfl rfl)
theorem dX4_executes_204 : decode cX4_executes 204 = .ok (.aload_n 0, 1) := dk_42 (dk_at dksX4_executes_8 20 rfl rfl)
theorem dX4_executes_205 : decode cX4_executes 205 = .ok (.getfield 19, 3) := dk_180 0 19 (dk_at dksX4_executes_8 21 rfl rfl)
theorem dX4_executes_208 : decode cX4_executes 208 = .ok (.iload_n 1, 1) := dk_27 (dk_at dksX4_executes_9 0 rfl rfl)
theorem dX4_executes_209 : decode cX4_executes 209 = .ok (.iaload, 1) := dk_46 (dk_at dksX4_executes_9 1 rfl rfl)
theorem dX4_executes_210 : decode cX4_executes 210 = .ok (.invokevirtual 334, 3) := dk_182 1 78 (dk_at dksX4_executes_9 2 rfl rfl)
theorem dX4_executes_213 : decode cX4_executes 213 = .ok (.goto 56, 3) := dk_167 0 56 (dk_at dksX4_executes_9 5 rfl rfl)
theorem dX4_executes_216 : decode cX4_executes 216 = .ok (.aload_n 0, 1) := dk_42 (dk_at dksX4_executes_9 8 rfl rfl)
theorem dX4_executes_217 : decode cX4_executes 217 = .ok (.getfield 319, 3) := dk_180 1 63 (dk_at dksX4_executes_9 9 rfl rfl)
theorem dX4_executes_220 : decode cX4_executes 220 = .ok (.bipush 6, 2) := dk_16 6 (dk_at dksX4_executes_9 12 rfl rfl)
theorem dX4_executes_222 : decode cX4_executes 222 = .ok (.if_icmp .eq 47, 3) := dk_159 0 47 (dk_at dksX4_executes_9 14 rfl rfl)
theorem dX4_executes_225 : decode cX4_executes 225 = .ok (.aload_n 0, 1) := dk_42 (dk_at dksX4_executes_9 17 rfl rfl)
theorem dX4_executes_226 : decode cX4_executes 226 = .ok (.getfield 338, 3) := dk_180 1 82 (dk_at dksX4_executes_9 18 rfl rfl)
theorem dX4_executes_229 : decode cX4_executes 229 = .ok (.sipush 200, 3) := dk_17 0 200 (dk_at dksX4_executes_9 21 rfl rfl)
theorem dX4_executes_232 : decode cX4_executes 232 = .ok (.if_icmp .ne 6, 3) := dk_160 0 6 (dk_at dksX4_executes_10 0 rfl rfl)
theorem dX4_executes_235 : decode cX4_executes 235 = .ok (.goto 34, 3) := dk_167 0 34 (dk_at dksX4_executes_10 3 rfl rfl)
theorem dX4_executes_238 : decode cX4_executes 238 = .ok (.aload_n 0, 1) := dk_42 (dk_at dksX4_executes_10 6 rfl rfl)
theorem dX4_executes_239 : decode cX4_executes 239 = .ok (.aload_n 0, 1) := dk_42 (dk_at dksX4_executes_10 7 rfl rfl)
theorem dX4_executes_240 : decode cX4_executes 240 = .ok (.getfield 19, 3) := dk_180 0 19 (dk_at dksX4_executes_10 8 rfl rfl)
theorem dX4_executes_243 : decode cX4_executes 243 = .ok (.iload_n 1, 1) := dk_27 (dk_at dksX4_executes_10 11 rfl rfl)
theorem dX4_executes_244 : decode cX4_executes 244 = .ok (.iaload, 1) := dk_46 (dk_at dksX4_executes_10 12 rfl rfl)
theorem dX4_executes_245 : decode cX4_executes 245 = .ok (.invokevirtual 341, 3) := dk_182 1 85 (dk_at dksX4_executes_10 13 rfl rfl)
theorem dX4_executes_248 : decode cX4_executes 248 = .ok (.aload_n 0, 1) := dk_42 (dk_at dksX4_executes_10 16 rfl rfl)
theorem dX4_executes_249 : decode cX4_executes 249 = .ok (.aload_n 0, 1) := dk_42 (dk_at dksX4_executes_10 17 rfl rfl)
theorem dX4_executes_250 : decode cX4_executes 250 = .ok (.getfield 75, 3) := dk_180 0 75 (dk_at dksX4_executes_10 18 rfl rfl)
theorem dX4_executes_253 : decode cX4_executes 253 = .ok (.aload_n 0, 1) := dk_42 (dk_at dksX4_executes_10 21 rfl rfl)
theorem dX4_executes_254 : decode cX4_executes 254 = .ok (.getfield 319, 3) := dk_180 1 63 (dk_at dksX4_executes_11 0 rfl rfl)
theorem dX4_executes_257 : decode cX4_executes 257 = .ok (.iconst 1, 1) := dk_4 (dk_at dksX4_executes_11 3 rfl rfl)
theorem dX4_executes_258 : decode cX4_executes 258 = .ok (.isub, 1) := dk_100 (dk_at dksX4_executes_11 4 rfl rfl)
theorem dX4_executes_259 : decode cX4_executes 259 = .ok (.iaload, 1) := dk_46 (dk_at dksX4_executes_11 5 rfl rfl)
theorem dX4_executes_260 : decode cX4_executes 260 = .ok (.aload_n 0, 1) := dk_42 (dk_at dksX4_executes_11 6 rfl rfl)
theorem dX4_executes_261 : decode cX4_executes 261 = .ok (.getfield 63, 3) := dk_180 0 63 (dk_at dksX4_executes_11 7 rfl rfl)
theorem dX4_executes_264 : decode cX4_executes 264 = .ok (.iload_n 3, 1) := dk_29 (dk_at dksX4_executes_11 10 rfl rfl)
theorem dX4_executes_265 : decode cX4_executes 265 = .ok (.iaload, 1) := dk_46 (dk_at dksX4_executes_11 11 rfl rfl)
theorem dX4_executes_266 : decode cX4_executes 266 = .ok (.invokevirtual 325, 3) := dk_182 1 69 (dk_at dksX4_executes_11 12 rfl rfl)
theorem dX4_executes_269 : decode cX4_executes 269 = .ok (.return_, 1) := dk_177 (dk_at dksX4_executes_11 15 rfl rfl)
abbrev cX4_makesObject : ByteArray := prog_21_method_91_code
def yX4_makesObject : MethodName := ⟨RX4, "makesObject", "(I)I"⟩
def dkwX4_makesObject_2 : List UInt8 := [167, 255, 223, 42, 89, 180, 1, 60, 4, 96, 181, 1, 60, 28, 4, 96, 172]
abbrev dktX4_makesObject_2 : List UInt8 := dkwX4_makesObject_2 ++ []
def dkwX4_makesObject_1 : List UInt8 := [96, 3, 79, 42, 180, 0, 66, 28, 29, 96, 16, 20, 6, 27, 104, 96, 29, 96, 79, 132, 3, 1]
abbrev dktX4_makesObject_1 : List UInt8 := dkwX4_makesObject_1 ++ dktX4_makesObject_2
def dkwX4_makesObject_0 : List UInt8 := [17, 3, 40, 6, 42, 180, 1, 60, 104, 96, 61, 3, 62, 29, 6, 162, 0, 34, 42, 180, 0, 63, 28, 29]
abbrev dktX4_makesObject_0 : List UInt8 := dkwX4_makesObject_0 ++ dktX4_makesObject_1
theorem dksX4_makesObject_0 : cX4_makesObject.data.toList.drop 0 = dktX4_makesObject_0 := by decide +kernel
theorem dksX4_makesObject_1 : cX4_makesObject.data.toList.drop 24 = dktX4_makesObject_1 := dk_seg dksX4_makesObject_0 24 rfl rfl
theorem dksX4_makesObject_2 : cX4_makesObject.data.toList.drop 46 = dktX4_makesObject_2 := dk_seg dksX4_makesObject_1 22 rfl rfl
theorem dX4_makesObject_0 : decode cX4_makesObject 0 = .ok (.sipush 808, 3) := dk_17 3 40 (dk_at dksX4_makesObject_0 0 rfl rfl)
theorem dX4_makesObject_3 : decode cX4_makesObject 3 = .ok (.iconst 3, 1) := dk_6 (dk_at dksX4_makesObject_0 3 rfl rfl)
theorem dX4_makesObject_4 : decode cX4_makesObject 4 = .ok (.aload_n 0, 1) := dk_42 (dk_at dksX4_makesObject_0 4 rfl rfl)
theorem dX4_makesObject_5 : decode cX4_makesObject 5 = .ok (.getfield 316, 3) := dk_180 1 60 (dk_at dksX4_makesObject_0 5 rfl rfl)
theorem dX4_makesObject_8 : decode cX4_makesObject 8 = .ok (.imul, 1) := dk_104 (dk_at dksX4_makesObject_0 8 rfl rfl)
theorem dX4_makesObject_9 : decode cX4_makesObject 9 = .ok (.iadd, 1) := dk_96 (dk_at dksX4_makesObject_0 9 rfl rfl)
theorem dX4_makesObject_10 : decode cX4_makesObject 10 = .ok (.istore_n 2, 1) := dk_61 (dk_at dksX4_makesObject_0 10 rfl rfl)
theorem dX4_makesObject_11 : decode cX4_makesObject 11 = .ok (.iconst 0, 1) := dk_3 (dk_at dksX4_makesObject_0 11 rfl rfl)
theorem dX4_makesObject_12 : decode cX4_makesObject 12 = .ok (.istore_n 3, 1) := dk_62 (dk_at dksX4_makesObject_0 12 rfl rfl)
theorem dX4_makesObject_13 : decode cX4_makesObject 13 = .ok (.iload_n 3, 1) := dk_29 (dk_at dksX4_makesObject_0 13 rfl rfl)
theorem dX4_makesObject_14 : decode cX4_makesObject 14 = .ok (.iconst 3, 1) := dk_6 (dk_at dksX4_makesObject_0 14 rfl rfl)
theorem dX4_makesObject_15 : decode cX4_makesObject 15 = .ok (.if_icmp .ge 34, 3) := dk_162 0 34 (dk_at dksX4_makesObject_0 15 rfl rfl)
theorem dX4_makesObject_18 : decode cX4_makesObject 18 = .ok (.aload_n 0, 1) := dk_42 (dk_at dksX4_makesObject_0 18 rfl rfl)
theorem dX4_makesObject_19 : decode cX4_makesObject 19 = .ok (.getfield 63, 3) := dk_180 0 63 (dk_at dksX4_makesObject_0 19 rfl rfl)
theorem dX4_makesObject_22 : decode cX4_makesObject 22 = .ok (.iload_n 2, 1) := dk_28 (dk_at dksX4_makesObject_0 22 rfl rfl)
theorem dX4_makesObject_23 : decode cX4_makesObject 23 = .ok (.iload_n 3, 1) := dk_29 (dk_at dksX4_makesObject_0 23 rfl rfl)
theorem dX4_makesObject_24 : decode cX4_makesObject 24 = .ok (.iadd, 1) := dk_96 (dk_at dksX4_makesObject_1 0 rfl rfl)
theorem dX4_makesObject_25 : decode cX4_makesObject 25 = .ok (.iconst 0, 1) := dk_3 (dk_at dksX4_makesObject_1 1 rfl rfl)
theorem dX4_makesObject_26 : decode cX4_makesObject 26 = .ok (.iastore, 1) := dk_79 (dk_at dksX4_makesObject_1 2 rfl rfl)
theorem dX4_makesObject_27 : decode cX4_makesObject 27 = .ok (.aload_n 0, 1) := dk_42 (dk_at dksX4_makesObject_1 3 rfl rfl)
theorem dX4_makesObject_28 : decode cX4_makesObject 28 = .ok (.getfield 66, 3) := dk_180 0 66 (dk_at dksX4_makesObject_1 4 rfl rfl)
theorem dX4_makesObject_31 : decode cX4_makesObject 31 = .ok (.iload_n 2, 1) := dk_28 (dk_at dksX4_makesObject_1 7 rfl rfl)
theorem dX4_makesObject_32 : decode cX4_makesObject 32 = .ok (.iload_n 3, 1) := dk_29 (dk_at dksX4_makesObject_1 8 rfl rfl)
theorem dX4_makesObject_33 : decode cX4_makesObject 33 = .ok (.iadd, 1) := dk_96 (dk_at dksX4_makesObject_1 9 rfl rfl)
theorem dX4_makesObject_34 : decode cX4_makesObject 34 = .ok (.bipush 20, 2) := dk_16 20 (dk_at dksX4_makesObject_1 10 rfl rfl)
theorem dX4_makesObject_36 : decode cX4_makesObject 36 = .ok (.iconst 3, 1) := dk_6 (dk_at dksX4_makesObject_1 12 rfl rfl)
theorem dX4_makesObject_37 : decode cX4_makesObject 37 = .ok (.iload_n 1, 1) := dk_27 (dk_at dksX4_makesObject_1 13 rfl rfl)
theorem dX4_makesObject_38 : decode cX4_makesObject 38 = .ok (.imul, 1) := dk_104 (dk_at dksX4_makesObject_1 14 rfl rfl)
theorem dX4_makesObject_39 : decode cX4_makesObject 39 = .ok (.iadd, 1) := dk_96 (dk_at dksX4_makesObject_1 15 rfl rfl)
theorem dX4_makesObject_40 : decode cX4_makesObject 40 = .ok (.iload_n 3, 1) := dk_29 (dk_at dksX4_makesObject_1 16 rfl rfl)
theorem dX4_makesObject_41 : decode cX4_makesObject 41 = .ok (.iadd, 1) := dk_96 (dk_at dksX4_makesObject_1 17 rfl rfl)
theorem dX4_makesObject_42 : decode cX4_makesObject 42 = .ok (.iastore, 1) := dk_79 (dk_at dksX4_makesObject_1 18 rfl rfl)
theorem dX4_makesObject_43 : decode cX4_makesObject 43 = .ok (.iinc 3 1, 3) := dk_132 3 1 (dk_at dksX4_makesObject_1 19 rfl rfl)
theorem dX4_makesObject_46 : decode cX4_makesObject 46 = .ok (.goto (-33), 3) := dk_167 255 223 (dk_at dksX4_makesObject_2 0 rfl rfl)
theorem dX4_makesObject_49 : decode cX4_makesObject 49 = .ok (.aload_n 0, 1) := dk_42 (dk_at dksX4_makesObject_2 3 rfl rfl)
theorem dX4_makesObject_50 : decode cX4_makesObject 50 = .ok (.dup, 1) := dk_89 (dk_at dksX4_makesObject_2 4 rfl rfl)
theorem dX4_makesObject_51 : decode cX4_makesObject 51 = .ok (.getfield 316, 3) := dk_180 1 60 (dk_at dksX4_makesObject_2 5 rfl rfl)
theorem dX4_makesObject_54 : decode cX4_makesObject 54 = .ok (.iconst 1, 1) := dk_4 (dk_at dksX4_makesObject_2 8 rfl rfl)
theorem dX4_makesObject_55 : decode cX4_makesObject 55 = .ok (.iadd, 1) := dk_96 (dk_at dksX4_makesObject_2 9 rfl rfl)
theorem dX4_makesObject_56 : decode cX4_makesObject 56 = .ok (.putfield 316, 3) := dk_181 1 60 (dk_at dksX4_makesObject_2 10 rfl rfl)
theorem dX4_makesObject_59 : decode cX4_makesObject 59 = .ok (.iload_n 2, 1) := dk_28 (dk_at dksX4_makesObject_2 13 rfl rfl)
theorem dX4_makesObject_60 : decode cX4_makesObject 60 = .ok (.iconst 1, 1) := dk_4 (dk_at dksX4_makesObject_2 14 rfl rfl)
theorem dX4_makesObject_61 : decode cX4_makesObject 61 = .ok (.iadd, 1) := dk_96 (dk_at dksX4_makesObject_2 15 rfl rfl)
theorem dX4_makesObject_62 : decode cX4_makesObject 62 = .ok (.ireturn, 1) := dk_172 (dk_at dksX4_makesObject_2 16 rfl rfl)
abbrev cX4_offsets : ByteArray := prog_21_method_92_code
def yX4_offsets : MethodName := ⟨RX4, "offsets", "(III)V"⟩
def dkwX4_offsets_2 : List UInt8 := [28, 29, 96, 182, 1, 69, 167, 0, 13, 42, 89, 180, 1, 57, 4, 96, 181, 1, 57, 177]
abbrev dktX4_offsets_2 : List UInt8 := dkwX4_offsets_2 ++ []
def dkwX4_offsets_1 : List UInt8 := [54, 4, 21, 4, 16, 20, 161, 0, 27, 21, 4, 16, 20, 100, 6, 112, 29, 96, 5, 163, 0, 14, 42, 27]
abbrev dktX4_offsets_1 : List UInt8 := dkwX4_offsets_1 ++ dktX4_offsets_2
def dkwX4_offsets_0 : List UInt8 := [28, 153, 0, 7, 29, 154, 0, 10, 42, 27, 28, 182, 1, 69, 177, 42, 180, 0, 66, 28, 4, 100, 46]
abbrev dktX4_offsets_0 : List UInt8 := dkwX4_offsets_0 ++ dktX4_offsets_1
theorem dksX4_offsets_0 : cX4_offsets.data.toList.drop 0 = dktX4_offsets_0 := by decide +kernel
theorem dksX4_offsets_1 : cX4_offsets.data.toList.drop 23 = dktX4_offsets_1 := dk_seg dksX4_offsets_0 23 rfl rfl
theorem dksX4_offsets_2 : cX4_offsets.data.toList.drop 47 = dktX4_offsets_2 := dk_seg dksX4_offsets_1 24 rfl rfl
theorem dX4_offsets_0 : decode cX4_offsets 0 = .ok (.iload_n 2, 1) := dk_28 (dk_at dksX4_offsets_0 0 rfl rfl)
theorem dX4_offsets_1 : decode cX4_offsets 1 = .ok (.ifCond .eq 7, 3) := dk_153 0 7 (dk_at dksX4_offsets_0 1 rfl rfl)
theorem dX4_offsets_4 : decode cX4_offsets 4 = .ok (.iload_n 3, 1) := dk_29 (dk_at dksX4_offsets_0 4 rfl rfl)
theorem dX4_offsets_5 : decode cX4_offsets 5 = .ok (.ifCond .ne 10, 3) := dk_154 0 10 (dk_at dksX4_offsets_0 5 rfl rfl)
theorem dX4_offsets_8 : decode cX4_offsets 8 = .ok (.aload_n 0, 1) := dk_42 (dk_at dksX4_offsets_0 8 rfl rfl)
theorem dX4_offsets_9 : decode cX4_offsets 9 = .ok (.iload_n 1, 1) := dk_27 (dk_at dksX4_offsets_0 9 rfl rfl)
theorem dX4_offsets_10 : decode cX4_offsets 10 = .ok (.iload_n 2, 1) := dk_28 (dk_at dksX4_offsets_0 10 rfl rfl)
theorem dX4_offsets_11 : decode cX4_offsets 11 = .ok (.invokevirtual 325, 3) := dk_182 1 69 (dk_at dksX4_offsets_0 11 rfl rfl)
theorem dX4_offsets_14 : decode cX4_offsets 14 = .ok (.return_, 1) := dk_177 (dk_at dksX4_offsets_0 14 rfl rfl)
theorem dX4_offsets_15 : decode cX4_offsets 15 = .ok (.aload_n 0, 1) := dk_42 (dk_at dksX4_offsets_0 15 rfl rfl)
theorem dX4_offsets_16 : decode cX4_offsets 16 = .ok (.getfield 66, 3) := dk_180 0 66 (dk_at dksX4_offsets_0 16 rfl rfl)
theorem dX4_offsets_19 : decode cX4_offsets 19 = .ok (.iload_n 2, 1) := dk_28 (dk_at dksX4_offsets_0 19 rfl rfl)
theorem dX4_offsets_20 : decode cX4_offsets 20 = .ok (.iconst 1, 1) := dk_4 (dk_at dksX4_offsets_0 20 rfl rfl)
theorem dX4_offsets_21 : decode cX4_offsets 21 = .ok (.isub, 1) := dk_100 (dk_at dksX4_offsets_0 21 rfl rfl)
theorem dX4_offsets_22 : decode cX4_offsets 22 = .ok (.iaload, 1) := dk_46 (dk_at dksX4_offsets_0 22 rfl rfl)
theorem dX4_offsets_23 : decode cX4_offsets 23 = .ok (.istore 4, 2) := dk_54 4 (dk_at dksX4_offsets_1 0 rfl rfl)
theorem dX4_offsets_25 : decode cX4_offsets 25 = .ok (.iload 4, 2) := dk_21 4 (dk_at dksX4_offsets_1 2 rfl rfl)
theorem dX4_offsets_27 : decode cX4_offsets 27 = .ok (.bipush 20, 2) := dk_16 20 (dk_at dksX4_offsets_1 4 rfl rfl)
theorem dX4_offsets_29 : decode cX4_offsets 29 = .ok (.if_icmp .lt 27, 3) := dk_161 0 27 (dk_at dksX4_offsets_1 6 rfl rfl)
theorem dX4_offsets_32 : decode cX4_offsets 32 = .ok (.iload 4, 2) := dk_21 4 (dk_at dksX4_offsets_1 9 rfl rfl)
theorem dX4_offsets_34 : decode cX4_offsets 34 = .ok (.bipush 20, 2) := dk_16 20 (dk_at dksX4_offsets_1 11 rfl rfl)
theorem dX4_offsets_36 : decode cX4_offsets 36 = .ok (.isub, 1) := dk_100 (dk_at dksX4_offsets_1 13 rfl rfl)
theorem dX4_offsets_37 : decode cX4_offsets 37 = .ok (.iconst 3, 1) := dk_6 (dk_at dksX4_offsets_1 14 rfl rfl)
theorem dX4_offsets_38 : decode cX4_offsets 38 = .ok (.irem, 1) := dk_112 (dk_at dksX4_offsets_1 15 rfl rfl)
theorem dX4_offsets_39 : decode cX4_offsets 39 = .ok (.iload_n 3, 1) := dk_29 (dk_at dksX4_offsets_1 16 rfl rfl)
theorem dX4_offsets_40 : decode cX4_offsets 40 = .ok (.iadd, 1) := dk_96 (dk_at dksX4_offsets_1 17 rfl rfl)
theorem dX4_offsets_41 : decode cX4_offsets 41 = .ok (.iconst 2, 1) := dk_5 (dk_at dksX4_offsets_1 18 rfl rfl)
theorem dX4_offsets_42 : decode cX4_offsets 42 = .ok (.if_icmp .gt 14, 3) := dk_163 0 14 (dk_at dksX4_offsets_1 19 rfl rfl)
theorem dX4_offsets_45 : decode cX4_offsets 45 = .ok (.aload_n 0, 1) := dk_42 (dk_at dksX4_offsets_1 22 rfl rfl)
theorem dX4_offsets_46 : decode cX4_offsets 46 = .ok (.iload_n 1, 1) := dk_27 (dk_at dksX4_offsets_1 23 rfl rfl)
theorem dX4_offsets_47 : decode cX4_offsets 47 = .ok (.iload_n 2, 1) := dk_28 (dk_at dksX4_offsets_2 0 rfl rfl)
theorem dX4_offsets_48 : decode cX4_offsets 48 = .ok (.iload_n 3, 1) := dk_29 (dk_at dksX4_offsets_2 1 rfl rfl)
theorem dX4_offsets_49 : decode cX4_offsets 49 = .ok (.iadd, 1) := dk_96 (dk_at dksX4_offsets_2 2 rfl rfl)
theorem dX4_offsets_50 : decode cX4_offsets 50 = .ok (.invokevirtual 325, 3) := dk_182 1 69 (dk_at dksX4_offsets_2 3 rfl rfl)
theorem dX4_offsets_53 : decode cX4_offsets 53 = .ok (.goto 13, 3) := dk_167 0 13 (dk_at dksX4_offsets_2 6 rfl rfl)
theorem dX4_offsets_56 : decode cX4_offsets 56 = .ok (.aload_n 0, 1) := dk_42 (dk_at dksX4_offsets_2 9 rfl rfl)
theorem dX4_offsets_57 : decode cX4_offsets 57 = .ok (.dup, 1) := dk_89 (dk_at dksX4_offsets_2 10 rfl rfl)
theorem dX4_offsets_58 : decode cX4_offsets 58 = .ok (.getfield 313, 3) := dk_180 1 57 (dk_at dksX4_offsets_2 11 rfl rfl)
theorem dX4_offsets_61 : decode cX4_offsets 61 = .ok (.iconst 1, 1) := dk_4 (dk_at dksX4_offsets_2 14 rfl rfl)
theorem dX4_offsets_62 : decode cX4_offsets 62 = .ok (.iadd, 1) := dk_96 (dk_at dksX4_offsets_2 15 rfl rfl)
theorem dX4_offsets_63 : decode cX4_offsets 63 = .ok (.putfield 313, 3) := dk_181 1 57 (dk_at dksX4_offsets_2 16 rfl rfl)
theorem dX4_offsets_66 : decode cX4_offsets 66 = .ok (.return_, 1) := dk_177 (dk_at dksX4_offsets_2 19 rfl rfl)
abbrev cX4_observed : ByteArray := prog_21_method_96_code
def yX4_observed : MethodName := ⟨RX4, "observed", "(I)J"⟩
def dkwX4_observed_1 : List UInt8 := [47, 173]
abbrev dktX4_observed_1 : List UInt8 := dkwX4_observed_1 ++ []
def dkwX4_observed_0 : List UInt8 := [27, 184, 0, 251, 154, 0, 10, 42, 4, 182, 0, 98, 133, 173, 42, 3, 181, 0, 84, 42, 180, 0, 78, 27]
abbrev dktX4_observed_0 : List UInt8 := dkwX4_observed_0 ++ dktX4_observed_1
theorem dksX4_observed_0 : cX4_observed.data.toList.drop 0 = dktX4_observed_0 := by decide +kernel
theorem dksX4_observed_1 : cX4_observed.data.toList.drop 24 = dktX4_observed_1 := dk_seg dksX4_observed_0 24 rfl rfl
theorem dX4_observed_0 : decode cX4_observed 0 = .ok (.iload_n 1, 1) := dk_27 (dk_at dksX4_observed_0 0 rfl rfl)
theorem dX4_observed_1 : decode cX4_observed 1 = .ok (.invokestatic 251, 3) := dk_184 0 251 (dk_at dksX4_observed_0 1 rfl rfl)
theorem dX4_observed_4 : decode cX4_observed 4 = .ok (.ifCond .ne 10, 3) := dk_154 0 10 (dk_at dksX4_observed_0 4 rfl rfl)
theorem dX4_observed_7 : decode cX4_observed 7 = .ok (.aload_n 0, 1) := dk_42 (dk_at dksX4_observed_0 7 rfl rfl)
theorem dX4_observed_8 : decode cX4_observed 8 = .ok (.iconst 1, 1) := dk_4 (dk_at dksX4_observed_0 8 rfl rfl)
theorem dX4_observed_9 : decode cX4_observed 9 = .ok (.invokevirtual 98, 3) := dk_182 0 98 (dk_at dksX4_observed_0 9 rfl rfl)
theorem dX4_observed_12 : decode cX4_observed 12 = .ok (.i2l, 1) := dk_133 (dk_at dksX4_observed_0 12 rfl rfl)
theorem dX4_observed_13 : decode cX4_observed 13 = .ok (.lreturn, 1) := dk_173 (dk_at dksX4_observed_0 13 rfl rfl)
theorem dX4_observed_14 : decode cX4_observed 14 = .ok (.aload_n 0, 1) := dk_42 (dk_at dksX4_observed_0 14 rfl rfl)
theorem dX4_observed_15 : decode cX4_observed 15 = .ok (.iconst 0, 1) := dk_3 (dk_at dksX4_observed_0 15 rfl rfl)
theorem dX4_observed_16 : decode cX4_observed 16 = .ok (.putfield 84, 3) := dk_181 0 84 (dk_at dksX4_observed_0 16 rfl rfl)
theorem dX4_observed_19 : decode cX4_observed 19 = .ok (.aload_n 0, 1) := dk_42 (dk_at dksX4_observed_0 19 rfl rfl)
theorem dX4_observed_20 : decode cX4_observed 20 = .ok (.getfield 78, 3) := dk_180 0 78 (dk_at dksX4_observed_0 20 rfl rfl)
theorem dX4_observed_23 : decode cX4_observed 23 = .ok (.iload_n 1, 1) := dk_27 (dk_at dksX4_observed_0 23 rfl rfl)
theorem dX4_observed_24 : decode cX4_observed 24 = .ok (.laload, 1) := dk_47 (dk_at dksX4_observed_1 0 rfl rfl)
theorem dX4_observed_25 : decode cX4_observed 25 = .ok (.lreturn, 1) := dk_173 (dk_at dksX4_observed_1 1 rfl rfl)
abbrev cX4_fieldObserved : ByteArray := prog_21_method_97_code
def yX4_fieldObserved : MethodName := ⟨RX4, "fieldObserved", "(II)J"⟩
def dkwX4_fieldObserved_1 : List UInt8 := [180, 0, 78, 16, 20, 6, 27, 104, 96, 28, 96, 47, 173]
abbrev dktX4_fieldObserved_1 : List UInt8 := dkwX4_fieldObserved_1 ++ []
def dkwX4_fieldObserved_0 : List UInt8 := [42, 27, 28, 182, 1, 1, 154, 0, 10, 42, 4, 182, 0, 98, 133, 173, 42, 3, 181, 0, 84, 42]
abbrev dktX4_fieldObserved_0 : List UInt8 := dkwX4_fieldObserved_0 ++ dktX4_fieldObserved_1
theorem dksX4_fieldObserved_0 : cX4_fieldObserved.data.toList.drop 0 = dktX4_fieldObserved_0 := by decide +kernel
theorem dksX4_fieldObserved_1 : cX4_fieldObserved.data.toList.drop 22 = dktX4_fieldObserved_1 := dk_seg dksX4_fieldObserved_0 22 rfl rfl
theorem dX4_fieldObserved_0 : decode cX4_fieldObserved 0 = .ok (.aload_n 0, 1) := dk_42 (dk_at dksX4_fieldObserved_0 0 rfl rfl)
theorem dX4_fieldObserved_1 : decode cX4_fieldObserved 1 = .ok (.iload_n 1, 1) := dk_27 (dk_at dksX4_fieldObserved_0 1 rfl rfl)
theorem dX4_fieldObserved_2 : decode cX4_fieldObserved 2 = .ok (.iload_n 2, 1) := dk_28 (dk_at dksX4_fieldObserved_0 2 rfl rfl)
theorem dX4_fieldObserved_3 : decode cX4_fieldObserved 3 = .ok (.invokevirtual 257, 3) := dk_182 1 1 (dk_at dksX4_fieldObserved_0 3 rfl rfl)
theorem dX4_fieldObserved_6 : decode cX4_fieldObserved 6 = .ok (.ifCond .ne 10, 3) := dk_154 0 10 (dk_at dksX4_fieldObserved_0 6 rfl rfl)
theorem dX4_fieldObserved_9 : decode cX4_fieldObserved 9 = .ok (.aload_n 0, 1) := dk_42 (dk_at dksX4_fieldObserved_0 9 rfl rfl)
theorem dX4_fieldObserved_10 : decode cX4_fieldObserved 10 = .ok (.iconst 1, 1) := dk_4 (dk_at dksX4_fieldObserved_0 10 rfl rfl)
theorem dX4_fieldObserved_11 : decode cX4_fieldObserved 11 = .ok (.invokevirtual 98, 3) := dk_182 0 98 (dk_at dksX4_fieldObserved_0 11 rfl rfl)
theorem dX4_fieldObserved_14 : decode cX4_fieldObserved 14 = .ok (.i2l, 1) := dk_133 (dk_at dksX4_fieldObserved_0 14 rfl rfl)
theorem dX4_fieldObserved_15 : decode cX4_fieldObserved 15 = .ok (.lreturn, 1) := dk_173 (dk_at dksX4_fieldObserved_0 15 rfl rfl)
theorem dX4_fieldObserved_16 : decode cX4_fieldObserved 16 = .ok (.aload_n 0, 1) := dk_42 (dk_at dksX4_fieldObserved_0 16 rfl rfl)
theorem dX4_fieldObserved_17 : decode cX4_fieldObserved 17 = .ok (.iconst 0, 1) := dk_3 (dk_at dksX4_fieldObserved_0 17 rfl rfl)
theorem dX4_fieldObserved_18 : decode cX4_fieldObserved 18 = .ok (.putfield 84, 3) := dk_181 0 84 (dk_at dksX4_fieldObserved_0 18 rfl rfl)
theorem dX4_fieldObserved_21 : decode cX4_fieldObserved 21 = .ok (.aload_n 0, 1) := dk_42 (dk_at dksX4_fieldObserved_0 21 rfl rfl)
theorem dX4_fieldObserved_22 : decode cX4_fieldObserved 22 = .ok (.getfield 78, 3) := dk_180 0 78 (dk_at dksX4_fieldObserved_1 0 rfl rfl)
theorem dX4_fieldObserved_25 : decode cX4_fieldObserved 25 = .ok (.bipush 20, 2) := dk_16 20 (dk_at dksX4_fieldObserved_1 3 rfl rfl)
theorem dX4_fieldObserved_27 : decode cX4_fieldObserved 27 = .ok (.iconst 3, 1) := dk_6 (dk_at dksX4_fieldObserved_1 5 rfl rfl)
theorem dX4_fieldObserved_28 : decode cX4_fieldObserved 28 = .ok (.iload_n 1, 1) := dk_27 (dk_at dksX4_fieldObserved_1 6 rfl rfl)
theorem dX4_fieldObserved_29 : decode cX4_fieldObserved 29 = .ok (.imul, 1) := dk_104 (dk_at dksX4_fieldObserved_1 7 rfl rfl)
theorem dX4_fieldObserved_30 : decode cX4_fieldObserved 30 = .ok (.iadd, 1) := dk_96 (dk_at dksX4_fieldObserved_1 8 rfl rfl)
theorem dX4_fieldObserved_31 : decode cX4_fieldObserved 31 = .ok (.iload_n 2, 1) := dk_28 (dk_at dksX4_fieldObserved_1 9 rfl rfl)
theorem dX4_fieldObserved_32 : decode cX4_fieldObserved 32 = .ok (.iadd, 1) := dk_96 (dk_at dksX4_fieldObserved_1 10 rfl rfl)
theorem dX4_fieldObserved_33 : decode cX4_fieldObserved 33 = .ok (.laload, 1) := dk_47 (dk_at dksX4_fieldObserved_1 11 rfl rfl)
theorem dX4_fieldObserved_34 : decode cX4_fieldObserved 34 = .ok (.lreturn, 1) := dk_173 (dk_at dksX4_fieldObserved_1 12 rfl rfl)
abbrev cX4_faults : ByteArray := prog_21_method_98_code
def yX4_faults : MethodName := ⟨RX4, "faults", "()I"⟩
def dkwX4_faults_0 : List UInt8 := [42, 3, 181, 0, 84, 42, 180, 1, 57, 172]
abbrev dktX4_faults_0 : List UInt8 := dkwX4_faults_0 ++ []
theorem dksX4_faults_0 : cX4_faults.data.toList.drop 0 = dktX4_faults_0 := by decide +kernel
theorem dX4_faults_0 : decode cX4_faults 0 = .ok (.aload_n 0, 1) := dk_42 (dk_at dksX4_faults_0 0 rfl rfl)
theorem dX4_faults_1 : decode cX4_faults 1 = .ok (.iconst 0, 1) := dk_3 (dk_at dksX4_faults_0 1 rfl rfl)
theorem dX4_faults_2 : decode cX4_faults 2 = .ok (.putfield 84, 3) := dk_181 0 84 (dk_at dksX4_faults_0 2 rfl rfl)
theorem dX4_faults_5 : decode cX4_faults 5 = .ok (.aload_n 0, 1) := dk_42 (dk_at dksX4_faults_0 5 rfl rfl)
theorem dX4_faults_6 : decode cX4_faults 6 = .ok (.getfield 313, 3) := dk_180 1 57 (dk_at dksX4_faults_0 6 rfl rfl)
theorem dX4_faults_9 : decode cX4_faults 9 = .ok (.ireturn, 1) := dk_172 (dk_at dksX4_faults_0 9 rfl rfl)
abbrev cX4_objects : ByteArray := prog_21_method_99_code
def yX4_objects : MethodName := ⟨RX4, "objects", "()I"⟩
def dkwX4_objects_0 : List UInt8 := [42, 3, 181, 0, 84, 42, 180, 1, 60, 172]
abbrev dktX4_objects_0 : List UInt8 := dkwX4_objects_0 ++ []
theorem dksX4_objects_0 : cX4_objects.data.toList.drop 0 = dktX4_objects_0 := by decide +kernel
theorem dX4_objects_0 : decode cX4_objects 0 = .ok (.aload_n 0, 1) := dk_42 (dk_at dksX4_objects_0 0 rfl rfl)
theorem dX4_objects_1 : decode cX4_objects 1 = .ok (.iconst 0, 1) := dk_3 (dk_at dksX4_objects_0 1 rfl rfl)
theorem dX4_objects_2 : decode cX4_objects 2 = .ok (.putfield 84, 3) := dk_181 0 84 (dk_at dksX4_objects_0 2 rfl rfl)
theorem dX4_objects_5 : decode cX4_objects 5 = .ok (.aload_n 0, 1) := dk_42 (dk_at dksX4_objects_0 5 rfl rfl)
theorem dX4_objects_6 : decode cX4_objects 6 = .ok (.getfield 316, 3) := dk_180 1 60 (dk_at dksX4_objects_0 6 rfl rfl)
theorem dX4_objects_9 : decode cX4_objects 9 = .ok (.ireturn, 1) := dk_172 (dk_at dksX4_objects_0 9 rfl rfl)
abbrev cX4_precision : ByteArray := prog_21_method_100_code
def yX4_precision : MethodName := ⟨RX4, "precision", "()D"⟩
def dkwX4_precision_2 : List UInt8 := [167, 0, 4, 3, 181, 0, 84, 28, 154, 0, 7, 14, 167, 0, 8, 27, 135, 28, 135, 111, 175]
abbrev dktX4_precision_2 : List UInt8 := dkwX4_precision_2 ++ []
def dkwX4_precision_1 : List UInt8 := [42, 29, 182, 1, 43, 184, 1, 4, 96, 61, 132, 3, 1, 167, 255, 225, 42, 28, 154, 0, 7, 4]
abbrev dktX4_precision_1 : List UInt8 := dkwX4_precision_1 ++ dktX4_precision_2
def dkwX4_precision_0 : List UInt8 := [3, 60, 3, 61, 3, 62, 29, 16, 20, 162, 0, 31, 27, 42, 29, 182, 0, 254, 184, 1, 4, 96, 60, 28]
abbrev dktX4_precision_0 : List UInt8 := dkwX4_precision_0 ++ dktX4_precision_1
theorem dksX4_precision_0 : cX4_precision.data.toList.drop 0 = dktX4_precision_0 := by decide +kernel
theorem dksX4_precision_1 : cX4_precision.data.toList.drop 24 = dktX4_precision_1 := dk_seg dksX4_precision_0 24 rfl rfl
theorem dksX4_precision_2 : cX4_precision.data.toList.drop 46 = dktX4_precision_2 := dk_seg dksX4_precision_1 22 rfl rfl
theorem dX4_precision_0 : decode cX4_precision 0 = .ok (.iconst 0, 1) := dk_3 (dk_at dksX4_precision_0 0 rfl rfl)
theorem dX4_precision_1 : decode cX4_precision 1 = .ok (.istore_n 1, 1) := dk_60 (dk_at dksX4_precision_0 1 rfl rfl)
theorem dX4_precision_2 : decode cX4_precision 2 = .ok (.iconst 0, 1) := dk_3 (dk_at dksX4_precision_0 2 rfl rfl)
theorem dX4_precision_3 : decode cX4_precision 3 = .ok (.istore_n 2, 1) := dk_61 (dk_at dksX4_precision_0 3 rfl rfl)
theorem dX4_precision_4 : decode cX4_precision 4 = .ok (.iconst 0, 1) := dk_3 (dk_at dksX4_precision_0 4 rfl rfl)
theorem dX4_precision_5 : decode cX4_precision 5 = .ok (.istore_n 3, 1) := dk_62 (dk_at dksX4_precision_0 5 rfl rfl)
theorem dX4_precision_6 : decode cX4_precision 6 = .ok (.iload_n 3, 1) := dk_29 (dk_at dksX4_precision_0 6 rfl rfl)
theorem dX4_precision_7 : decode cX4_precision 7 = .ok (.bipush 20, 2) := dk_16 20 (dk_at dksX4_precision_0 7 rfl rfl)
theorem dX4_precision_9 : decode cX4_precision 9 = .ok (.if_icmp .ge 31, 3) := dk_162 0 31 (dk_at dksX4_precision_0 9 rfl rfl)
theorem dX4_precision_12 : decode cX4_precision 12 = .ok (.iload_n 1, 1) := dk_27 (dk_at dksX4_precision_0 12 rfl rfl)
theorem dX4_precision_13 : decode cX4_precision 13 = .ok (.aload_n 0, 1) := dk_42 (dk_at dksX4_precision_0 13 rfl rfl)
theorem dX4_precision_14 : decode cX4_precision 14 = .ok (.iload_n 3, 1) := dk_29 (dk_at dksX4_precision_0 14 rfl rfl)
theorem dX4_precision_15 : decode cX4_precision 15 = .ok (.invokevirtual 254, 3) := dk_182 0 254 (dk_at dksX4_precision_0 15 rfl rfl)
theorem dX4_precision_18 : decode cX4_precision 18 = .ok (.invokestatic 260, 3) := dk_184 1 4 (dk_at dksX4_precision_0 18 rfl rfl)
theorem dX4_precision_21 : decode cX4_precision 21 = .ok (.iadd, 1) := dk_96 (dk_at dksX4_precision_0 21 rfl rfl)
theorem dX4_precision_22 : decode cX4_precision 22 = .ok (.istore_n 1, 1) := dk_60 (dk_at dksX4_precision_0 22 rfl rfl)
theorem dX4_precision_23 : decode cX4_precision 23 = .ok (.iload_n 2, 1) := dk_28 (dk_at dksX4_precision_0 23 rfl rfl)
theorem dX4_precision_24 : decode cX4_precision 24 = .ok (.aload_n 0, 1) := dk_42 (dk_at dksX4_precision_1 0 rfl rfl)
theorem dX4_precision_25 : decode cX4_precision 25 = .ok (.iload_n 3, 1) := dk_29 (dk_at dksX4_precision_1 1 rfl rfl)
theorem dX4_precision_26 : decode cX4_precision 26 = .ok (.invokevirtual 299, 3) := dk_182 1 43 (dk_at dksX4_precision_1 2 rfl rfl)
theorem dX4_precision_29 : decode cX4_precision 29 = .ok (.invokestatic 260, 3) := dk_184 1 4 (dk_at dksX4_precision_1 5 rfl rfl)
theorem dX4_precision_32 : decode cX4_precision 32 = .ok (.iadd, 1) := dk_96 (dk_at dksX4_precision_1 8 rfl rfl)
theorem dX4_precision_33 : decode cX4_precision 33 = .ok (.istore_n 2, 1) := dk_61 (dk_at dksX4_precision_1 9 rfl rfl)
theorem dX4_precision_34 : decode cX4_precision 34 = .ok (.iinc 3 1, 3) := dk_132 3 1 (dk_at dksX4_precision_1 10 rfl rfl)
theorem dX4_precision_37 : decode cX4_precision 37 = .ok (.goto (-31), 3) := dk_167 255 225 (dk_at dksX4_precision_1 13 rfl rfl)
theorem dX4_precision_40 : decode cX4_precision 40 = .ok (.aload_n 0, 1) := dk_42 (dk_at dksX4_precision_1 16 rfl rfl)
theorem dX4_precision_41 : decode cX4_precision 41 = .ok (.iload_n 2, 1) := dk_28 (dk_at dksX4_precision_1 17 rfl rfl)
theorem dX4_precision_42 : decode cX4_precision 42 = .ok (.ifCond .ne 7, 3) := dk_154 0 7 (dk_at dksX4_precision_1 18 rfl rfl)
theorem dX4_precision_45 : decode cX4_precision 45 = .ok (.iconst 1, 1) := dk_4 (dk_at dksX4_precision_1 21 rfl rfl)
theorem dX4_precision_46 : decode cX4_precision 46 = .ok (.goto 4, 3) := dk_167 0 4 (dk_at dksX4_precision_2 0 rfl rfl)
theorem dX4_precision_49 : decode cX4_precision 49 = .ok (.iconst 0, 1) := dk_3 (dk_at dksX4_precision_2 3 rfl rfl)
theorem dX4_precision_50 : decode cX4_precision 50 = .ok (.putfield 84, 3) := dk_181 0 84 (dk_at dksX4_precision_2 4 rfl rfl)
theorem dX4_precision_53 : decode cX4_precision 53 = .ok (.iload_n 2, 1) := dk_28 (dk_at dksX4_precision_2 7 rfl rfl)
theorem dX4_precision_54 : decode cX4_precision 54 = .ok (.ifCond .ne 7, 3) := dk_154 0 7 (dk_at dksX4_precision_2 8 rfl rfl)
theorem dX4_precision_57 : decode cX4_precision 57 = .ok (.dconst 0, 1) := dk_14 (dk_at dksX4_precision_2 11 rfl rfl)
theorem dX4_precision_58 : decode cX4_precision 58 = .ok (.goto 8, 3) := dk_167 0 8 (dk_at dksX4_precision_2 12 rfl rfl)
theorem dX4_precision_61 : decode cX4_precision 61 = .ok (.iload_n 1, 1) := dk_27 (dk_at dksX4_precision_2 15 rfl rfl)
theorem dX4_precision_62 : decode cX4_precision 62 = .ok (.i2d, 1) := dk_135 (dk_at dksX4_precision_2 16 rfl rfl)
theorem dX4_precision_63 : decode cX4_precision 63 = .ok (.iload_n 2, 1) := dk_28 (dk_at dksX4_precision_2 17 rfl rfl)
theorem dX4_precision_64 : decode cX4_precision 64 = .ok (.i2d, 1) := dk_135 (dk_at dksX4_precision_2 18 rfl rfl)
theorem dX4_precision_65 : decode cX4_precision 65 = .ok (.ddiv, 1) := dk_111 (dk_at dksX4_precision_2 19 rfl rfl)
theorem dX4_precision_66 : decode cX4_precision 66 = .ok (.dreturn, 1) := dk_175 (dk_at dksX4_precision_2 20 rfl rfl)
abbrev cX4_averageTargets : ByteArray := prog_21_method_101_code
def yX4_averageTargets : MethodName := ⟨RX4, "averageTargets", "()F"⟩
def dkwX4_averageTargets_3 : List UInt8 := [110, 174]
abbrev dktX4_averageTargets_3 : List UInt8 := dkwX4_averageTargets_3 ++ []
def dkwX4_averageTargets_2 : List UInt8 := [28, 154, 0, 7, 4, 167, 0, 4, 3, 181, 0, 84, 28, 154, 0, 7, 11, 167, 0, 8, 27, 134, 28, 134]
abbrev dktX4_averageTargets_2 : List UInt8 := dkwX4_averageTargets_2 ++ dktX4_averageTargets_3
def dkwX4_averageTargets_1 : List UInt8 := [42, 29, 182, 0, 254, 9, 148, 153, 0, 7, 4, 167, 0, 4, 3, 96, 61, 132, 3, 1, 167, 255, 218, 42]
abbrev dktX4_averageTargets_1 : List UInt8 := dkwX4_averageTargets_1 ++ dktX4_averageTargets_2
def dkwX4_averageTargets_0 : List UInt8 := [3, 60, 3, 61, 3, 62, 29, 16, 20, 162, 0, 38, 27, 42, 29, 182, 0, 254, 184, 1, 4, 96, 60, 28]
abbrev dktX4_averageTargets_0 : List UInt8 := dkwX4_averageTargets_0 ++ dktX4_averageTargets_1
theorem dksX4_averageTargets_0 : cX4_averageTargets.data.toList.drop 0 = dktX4_averageTargets_0 := by decide +kernel
theorem dksX4_averageTargets_1 : cX4_averageTargets.data.toList.drop 24 = dktX4_averageTargets_1 := dk_seg dksX4_averageTargets_0 24 rfl rfl
theorem dksX4_averageTargets_2 : cX4_averageTargets.data.toList.drop 48 = dktX4_averageTargets_2 := dk_seg dksX4_averageTargets_1 24 rfl rfl
theorem dksX4_averageTargets_3 : cX4_averageTargets.data.toList.drop 72 = dktX4_averageTargets_3 := dk_seg dksX4_averageTargets_2 24 rfl rfl
theorem dX4_averageTargets_0 : decode cX4_averageTargets 0 = .ok (.iconst 0, 1) := dk_3 (dk_at dksX4_averageTargets_0 0 rfl rfl)
theorem dX4_averageTargets_1 : decode cX4_averageTargets 1 = .ok (.istore_n 1, 1) := dk_60 (dk_at dksX4_averageTargets_0 1 rfl rfl)
theorem dX4_averageTargets_2 : decode cX4_averageTargets 2 = .ok (.iconst 0, 1) := dk_3 (dk_at dksX4_averageTargets_0 2 rfl rfl)
theorem dX4_averageTargets_3 : decode cX4_averageTargets 3 = .ok (.istore_n 2, 1) := dk_61 (dk_at dksX4_averageTargets_0 3 rfl rfl)
theorem dX4_averageTargets_4 : decode cX4_averageTargets 4 = .ok (.iconst 0, 1) := dk_3 (dk_at dksX4_averageTargets_0 4 rfl rfl)
theorem dX4_averageTargets_5 : decode cX4_averageTargets 5 = .ok (.istore_n 3, 1) := dk_62 (dk_at dksX4_averageTargets_0 5 rfl rfl)
theorem dX4_averageTargets_6 : decode cX4_averageTargets 6 = .ok (.iload_n 3, 1) := dk_29 (dk_at dksX4_averageTargets_0 6 rfl rfl)
theorem dX4_averageTargets_7 : decode cX4_averageTargets 7 = .ok (.bipush 20, 2) := dk_16 20 (dk_at dksX4_averageTargets_0 7 rfl rfl)
theorem dX4_averageTargets_9 : decode cX4_averageTargets 9 = .ok (.if_icmp .ge 38, 3) := dk_162 0 38 (dk_at dksX4_averageTargets_0 9 rfl rfl)
theorem dX4_averageTargets_12 : decode cX4_averageTargets 12 = .ok (.iload_n 1, 1) := dk_27 (dk_at dksX4_averageTargets_0 12 rfl rfl)
theorem dX4_averageTargets_13 : decode cX4_averageTargets 13 = .ok (.aload_n 0, 1) := dk_42 (dk_at dksX4_averageTargets_0 13 rfl rfl)
theorem dX4_averageTargets_14 : decode cX4_averageTargets 14 = .ok (.iload_n 3, 1) := dk_29 (dk_at dksX4_averageTargets_0 14 rfl rfl)
theorem dX4_averageTargets_15 : decode cX4_averageTargets 15 = .ok (.invokevirtual 254, 3) := dk_182 0 254 (dk_at dksX4_averageTargets_0 15 rfl rfl)
theorem dX4_averageTargets_18 : decode cX4_averageTargets 18 = .ok (.invokestatic 260, 3) := dk_184 1 4 (dk_at dksX4_averageTargets_0 18 rfl rfl)
theorem dX4_averageTargets_21 : decode cX4_averageTargets 21 = .ok (.iadd, 1) := dk_96 (dk_at dksX4_averageTargets_0 21 rfl rfl)
theorem dX4_averageTargets_22 : decode cX4_averageTargets 22 = .ok (.istore_n 1, 1) := dk_60 (dk_at dksX4_averageTargets_0 22 rfl rfl)
theorem dX4_averageTargets_23 : decode cX4_averageTargets 23 = .ok (.iload_n 2, 1) := dk_28 (dk_at dksX4_averageTargets_0 23 rfl rfl)
theorem dX4_averageTargets_24 : decode cX4_averageTargets 24 = .ok (.aload_n 0, 1) := dk_42 (dk_at dksX4_averageTargets_1 0 rfl rfl)
theorem dX4_averageTargets_25 : decode cX4_averageTargets 25 = .ok (.iload_n 3, 1) := dk_29 (dk_at dksX4_averageTargets_1 1 rfl rfl)
theorem dX4_averageTargets_26 : decode cX4_averageTargets 26 = .ok (.invokevirtual 254, 3) := dk_182 0 254 (dk_at dksX4_averageTargets_1 2 rfl rfl)
theorem dX4_averageTargets_29 : decode cX4_averageTargets 29 = .ok (.lconst 0, 1) := dk_9 (dk_at dksX4_averageTargets_1 5 rfl rfl)
theorem dX4_averageTargets_30 : decode cX4_averageTargets 30 = .ok (.lcmp, 1) := dk_148 (dk_at dksX4_averageTargets_1 6 rfl rfl)
theorem dX4_averageTargets_31 : decode cX4_averageTargets 31 = .ok (.ifCond .eq 7, 3) := dk_153 0 7 (dk_at dksX4_averageTargets_1 7 rfl rfl)
theorem dX4_averageTargets_34 : decode cX4_averageTargets 34 = .ok (.iconst 1, 1) := dk_4 (dk_at dksX4_averageTargets_1 10 rfl rfl)
theorem dX4_averageTargets_35 : decode cX4_averageTargets 35 = .ok (.goto 4, 3) := dk_167 0 4 (dk_at dksX4_averageTargets_1 11 rfl rfl)
theorem dX4_averageTargets_38 : decode cX4_averageTargets 38 = .ok (.iconst 0, 1) := dk_3 (dk_at dksX4_averageTargets_1 14 rfl rfl)
theorem dX4_averageTargets_39 : decode cX4_averageTargets 39 = .ok (.iadd, 1) := dk_96 (dk_at dksX4_averageTargets_1 15 rfl rfl)
theorem dX4_averageTargets_40 : decode cX4_averageTargets 40 = .ok (.istore_n 2, 1) := dk_61 (dk_at dksX4_averageTargets_1 16 rfl rfl)
theorem dX4_averageTargets_41 : decode cX4_averageTargets 41 = .ok (.iinc 3 1, 3) := dk_132 3 1 (dk_at dksX4_averageTargets_1 17 rfl rfl)
theorem dX4_averageTargets_44 : decode cX4_averageTargets 44 = .ok (.goto (-38), 3) := dk_167 255 218 (dk_at dksX4_averageTargets_1 20 rfl rfl)
theorem dX4_averageTargets_47 : decode cX4_averageTargets 47 = .ok (.aload_n 0, 1) := dk_42 (dk_at dksX4_averageTargets_1 23 rfl rfl)
theorem dX4_averageTargets_48 : decode cX4_averageTargets 48 = .ok (.iload_n 2, 1) := dk_28 (dk_at dksX4_averageTargets_2 0 rfl rfl)
theorem dX4_averageTargets_49 : decode cX4_averageTargets 49 = .ok (.ifCond .ne 7, 3) := dk_154 0 7 (dk_at dksX4_averageTargets_2 1 rfl rfl)
theorem dX4_averageTargets_52 : decode cX4_averageTargets 52 = .ok (.iconst 1, 1) := dk_4 (dk_at dksX4_averageTargets_2 4 rfl rfl)
theorem dX4_averageTargets_53 : decode cX4_averageTargets 53 = .ok (.goto 4, 3) := dk_167 0 4 (dk_at dksX4_averageTargets_2 5 rfl rfl)
theorem dX4_averageTargets_56 : decode cX4_averageTargets 56 = .ok (.iconst 0, 1) := dk_3 (dk_at dksX4_averageTargets_2 8 rfl rfl)
theorem dX4_averageTargets_57 : decode cX4_averageTargets 57 = .ok (.putfield 84, 3) := dk_181 0 84 (dk_at dksX4_averageTargets_2 9 rfl rfl)
theorem dX4_averageTargets_60 : decode cX4_averageTargets 60 = .ok (.iload_n 2, 1) := dk_28 (dk_at dksX4_averageTargets_2 12 rfl rfl)
theorem dX4_averageTargets_61 : decode cX4_averageTargets 61 = .ok (.ifCond .ne 7, 3) := dk_154 0 7 (dk_at dksX4_averageTargets_2 13 rfl rfl)
theorem dX4_averageTargets_64 : decode cX4_averageTargets 64 = .ok (.fconst 0, 1) := dk_11 (dk_at dksX4_averageTargets_2 16 rfl rfl)
theorem dX4_averageTargets_65 : decode cX4_averageTargets 65 = .ok (.goto 8, 3) := dk_167 0 8 (dk_at dksX4_averageTargets_2 17 rfl rfl)
theorem dX4_averageTargets_68 : decode cX4_averageTargets 68 = .ok (.iload_n 1, 1) := dk_27 (dk_at dksX4_averageTargets_2 20 rfl rfl)
theorem dX4_averageTargets_69 : decode cX4_averageTargets 69 = .ok (.i2f, 1) := dk_134 (dk_at dksX4_averageTargets_2 21 rfl rfl)
theorem dX4_averageTargets_70 : decode cX4_averageTargets 70 = .ok (.iload_n 2, 1) := dk_28 (dk_at dksX4_averageTargets_2 22 rfl rfl)
theorem dX4_averageTargets_71 : decode cX4_averageTargets 71 = .ok (.i2f, 1) := dk_134 (dk_at dksX4_averageTargets_2 23 rfl rfl)
theorem dX4_averageTargets_72 : decode cX4_averageTargets 72 = .ok (.fdiv, 1) := dk_110 (dk_at dksX4_averageTargets_3 0 rfl rfl)
theorem dX4_averageTargets_73 : decode cX4_averageTargets 73 = .ok (.freturn, 1) := dk_174 (dk_at dksX4_averageTargets_3 1 rfl rfl)
abbrev cX4_save : ByteArray := prog_21_method_104_code
def yX4_save : MethodName := ⟨RX4, "save", "()V"⟩
def dkwX4_save_0 : List UInt8 := [42, 3, 181, 0, 84, 42, 4, 181, 1, 103, 42, 4, 182, 1, 106, 177]
abbrev dktX4_save_0 : List UInt8 := dkwX4_save_0 ++ []
theorem dksX4_save_0 : cX4_save.data.toList.drop 0 = dktX4_save_0 := by decide +kernel
theorem dX4_save_0 : decode cX4_save 0 = .ok (.aload_n 0, 1) := dk_42 (dk_at dksX4_save_0 0 rfl rfl)
theorem dX4_save_1 : decode cX4_save 1 = .ok (.iconst 0, 1) := dk_3 (dk_at dksX4_save_0 1 rfl rfl)
theorem dX4_save_2 : decode cX4_save 2 = .ok (.putfield 84, 3) := dk_181 0 84 (dk_at dksX4_save_0 2 rfl rfl)
theorem dX4_save_5 : decode cX4_save 5 = .ok (.aload_n 0, 1) := dk_42 (dk_at dksX4_save_0 5 rfl rfl)
theorem dX4_save_6 : decode cX4_save 6 = .ok (.iconst 1, 1) := dk_4 (dk_at dksX4_save_0 6 rfl rfl)
theorem dX4_save_7 : decode cX4_save 7 = .ok (.putfield 359, 3) := dk_181 1 103 (dk_at dksX4_save_0 7 rfl rfl)
theorem dX4_save_10 : decode cX4_save 10 = .ok (.aload_n 0, 1) := dk_42 (dk_at dksX4_save_0 10 rfl rfl)
theorem dX4_save_11 : decode cX4_save 11 = .ok (.iconst 1, 1) := dk_4 (dk_at dksX4_save_0 11 rfl rfl)
theorem dX4_save_12 : decode cX4_save 12 = .ok (.invokevirtual 362, 3) := dk_182 1 106 (dk_at dksX4_save_0 12 rfl rfl)
theorem dX4_save_15 : decode cX4_save 15 = .ok (.return_, 1) := dk_177 (dk_at dksX4_save_0 15 rfl rfl)
abbrev cX4_passState : ByteArray := prog_21_method_103_code
def yX4_passState : MethodName := ⟨RX4, "passState", "(Z)V"⟩
def dkwX4_passState_5 : List UInt8 := [182, 1, 100, 79, 132, 2, 1, 167, 255, 183, 177]
abbrev dktX4_passState_5 : List UInt8 := dkwX4_passState_5 ++ []
def dkwX4_passState_4 : List UInt8 := [28, 42, 42, 180, 0, 16, 28, 46, 182, 1, 100, 79, 42, 180, 0, 19, 28, 42, 42, 180, 0, 19, 28, 46]
abbrev dktX4_passState_4 : List UInt8 := dkwX4_passState_4 ++ dktX4_passState_5
def dkwX4_passState_3 : List UInt8 := [182, 1, 100, 79, 42, 180, 0, 13, 28, 42, 42, 180, 0, 13, 28, 46, 182, 1, 100, 79, 42, 180, 0, 16]
abbrev dktX4_passState_3 : List UInt8 := dkwX4_passState_3 ++ dktX4_passState_4
def dkwX4_passState_2 : List UInt8 := [167, 255, 232, 3, 61, 28, 16, 48, 162, 0, 73, 42, 180, 0, 7, 28, 42, 42, 180, 0, 7, 28, 46]
abbrev dktX4_passState_2 : List UInt8 := dkwX4_passState_2 ++ dktX4_passState_3
def dkwX4_passState_1 : List UInt8 := [28, 7, 162, 0, 25, 42, 180, 0, 22, 28, 42, 42, 180, 0, 22, 28, 46, 182, 1, 100, 79, 132, 2, 1]
abbrev dktX4_passState_1 : List UInt8 := dkwX4_passState_1 ++ dktX4_passState_2
def dkwX4_passState_0 : List UInt8 := [42, 27, 181, 1, 94, 42, 3, 181, 1, 97, 42, 42, 42, 180, 0, 171, 182, 1, 100, 181, 0, 171, 3, 61]
abbrev dktX4_passState_0 : List UInt8 := dkwX4_passState_0 ++ dktX4_passState_1
theorem dksX4_passState_0 : cX4_passState.data.toList.drop 0 = dktX4_passState_0 := by decide +kernel
theorem dksX4_passState_1 : cX4_passState.data.toList.drop 24 = dktX4_passState_1 := dk_seg dksX4_passState_0 24 rfl rfl
theorem dksX4_passState_2 : cX4_passState.data.toList.drop 48 = dktX4_passState_2 := dk_seg dksX4_passState_1 24 rfl rfl
theorem dksX4_passState_3 : cX4_passState.data.toList.drop 71 = dktX4_passState_3 := dk_seg dksX4_passState_2 23 rfl rfl
theorem dksX4_passState_4 : cX4_passState.data.toList.drop 95 = dktX4_passState_4 := dk_seg dksX4_passState_3 24 rfl rfl
theorem dksX4_passState_5 : cX4_passState.data.toList.drop 119 = dktX4_passState_5 := dk_seg dksX4_passState_4 24 rfl rfl
theorem dX4_passState_0 : decode cX4_passState 0 = .ok (.aload_n 0, 1) := dk_42 (dk_at dksX4_passState_0 0 rfl rfl)
theorem dX4_passState_1 : decode cX4_passState 1 = .ok (.iload_n 1, 1) := dk_27 (dk_at dksX4_passState_0 1 rfl rfl)
theorem dX4_passState_2 : decode cX4_passState 2 = .ok (.putfield 350, 3) := dk_181 1 94 (dk_at dksX4_passState_0 2 rfl rfl)
theorem dX4_passState_5 : decode cX4_passState 5 = .ok (.aload_n 0, 1) := dk_42 (dk_at dksX4_passState_0 5 rfl rfl)
theorem dX4_passState_6 : decode cX4_passState 6 = .ok (.iconst 0, 1) := dk_3 (dk_at dksX4_passState_0 6 rfl rfl)
theorem dX4_passState_7 : decode cX4_passState 7 = .ok (.putfield 353, 3) := dk_181 1 97 (dk_at dksX4_passState_0 7 rfl rfl)
theorem dX4_passState_10 : decode cX4_passState 10 = .ok (.aload_n 0, 1) := dk_42 (dk_at dksX4_passState_0 10 rfl rfl)
theorem dX4_passState_11 : decode cX4_passState 11 = .ok (.aload_n 0, 1) := dk_42 (dk_at dksX4_passState_0 11 rfl rfl)
theorem dX4_passState_12 : decode cX4_passState 12 = .ok (.aload_n 0, 1) := dk_42 (dk_at dksX4_passState_0 12 rfl rfl)
theorem dX4_passState_13 : decode cX4_passState 13 = .ok (.getfield 171, 3) := dk_180 0 171 (dk_at dksX4_passState_0 13 rfl rfl)
theorem dX4_passState_16 : decode cX4_passState 16 = .ok (.invokevirtual 356, 3) := dk_182 1 100 (dk_at dksX4_passState_0 16 rfl rfl)
theorem dX4_passState_19 : decode cX4_passState 19 = .ok (.putfield 171, 3) := dk_181 0 171 (dk_at dksX4_passState_0 19 rfl rfl)
theorem dX4_passState_22 : decode cX4_passState 22 = .ok (.iconst 0, 1) := dk_3 (dk_at dksX4_passState_0 22 rfl rfl)
theorem dX4_passState_23 : decode cX4_passState 23 = .ok (.istore_n 2, 1) := dk_61 (dk_at dksX4_passState_0 23 rfl rfl)
theorem dX4_passState_24 : decode cX4_passState 24 = .ok (.iload_n 2, 1) := dk_28 (dk_at dksX4_passState_1 0 rfl rfl)
theorem dX4_passState_25 : decode cX4_passState 25 = .ok (.iconst 4, 1) := dk_7 (dk_at dksX4_passState_1 1 rfl rfl)
theorem dX4_passState_26 : decode cX4_passState 26 = .ok (.if_icmp .ge 25, 3) := dk_162 0 25 (dk_at dksX4_passState_1 2 rfl rfl)
theorem dX4_passState_29 : decode cX4_passState 29 = .ok (.aload_n 0, 1) := dk_42 (dk_at dksX4_passState_1 5 rfl rfl)
theorem dX4_passState_30 : decode cX4_passState 30 = .ok (.getfield 22, 3) := dk_180 0 22 (dk_at dksX4_passState_1 6 rfl rfl)
theorem dX4_passState_33 : decode cX4_passState 33 = .ok (.iload_n 2, 1) := dk_28 (dk_at dksX4_passState_1 9 rfl rfl)
theorem dX4_passState_34 : decode cX4_passState 34 = .ok (.aload_n 0, 1) := dk_42 (dk_at dksX4_passState_1 10 rfl rfl)
theorem dX4_passState_35 : decode cX4_passState 35 = .ok (.aload_n 0, 1) := dk_42 (dk_at dksX4_passState_1 11 rfl rfl)
theorem dX4_passState_36 : decode cX4_passState 36 = .ok (.getfield 22, 3) := dk_180 0 22 (dk_at dksX4_passState_1 12 rfl rfl)
theorem dX4_passState_39 : decode cX4_passState 39 = .ok (.iload_n 2, 1) := dk_28 (dk_at dksX4_passState_1 15 rfl rfl)
theorem dX4_passState_40 : decode cX4_passState 40 = .ok (.iaload, 1) := dk_46 (dk_at dksX4_passState_1 16 rfl rfl)
theorem dX4_passState_41 : decode cX4_passState 41 = .ok (.invokevirtual 356, 3) := dk_182 1 100 (dk_at dksX4_passState_1 17 rfl rfl)
theorem dX4_passState_44 : decode cX4_passState 44 = .ok (.iastore, 1) := dk_79 (dk_at dksX4_passState_1 20 rfl rfl)
theorem dX4_passState_45 : decode cX4_passState 45 = .ok (.iinc 2 1, 3) := dk_132 2 1 (dk_at dksX4_passState_1 21 rfl rfl)
theorem dX4_passState_48 : decode cX4_passState 48 = .ok (.goto (-24), 3) := dk_167 255 232 (dk_at dksX4_passState_2 0 rfl rfl)
theorem dX4_passState_51 : decode cX4_passState 51 = .ok (.iconst 0, 1) := dk_3 (dk_at dksX4_passState_2 3 rfl rfl)
theorem dX4_passState_52 : decode cX4_passState 52 = .ok (.istore_n 2, 1) := dk_61 (dk_at dksX4_passState_2 4 rfl rfl)
theorem dX4_passState_53 : decode cX4_passState 53 = .ok (.iload_n 2, 1) := dk_28 (dk_at dksX4_passState_2 5 rfl rfl)
theorem dX4_passState_54 : decode cX4_passState 54 = .ok (.bipush 48, 2) := dk_16 48 (dk_at dksX4_passState_2 6 rfl rfl)
theorem dX4_passState_56 : decode cX4_passState 56 = .ok (.if_icmp .ge 73, 3) := dk_162 0 73 (dk_at dksX4_passState_2 8 rfl rfl)
theorem dX4_passState_59 : decode cX4_passState 59 = .ok (.aload_n 0, 1) := dk_42 (dk_at dksX4_passState_2 11 rfl rfl)
theorem dX4_passState_60 : decode cX4_passState 60 = .ok (.getfield 7, 3) := dk_180 0 7 (dk_at dksX4_passState_2 12 rfl rfl)
theorem dX4_passState_63 : decode cX4_passState 63 = .ok (.iload_n 2, 1) := dk_28 (dk_at dksX4_passState_2 15 rfl rfl)
theorem dX4_passState_64 : decode cX4_passState 64 = .ok (.aload_n 0, 1) := dk_42 (dk_at dksX4_passState_2 16 rfl rfl)
theorem dX4_passState_65 : decode cX4_passState 65 = .ok (.aload_n 0, 1) := dk_42 (dk_at dksX4_passState_2 17 rfl rfl)
theorem dX4_passState_66 : decode cX4_passState 66 = .ok (.getfield 7, 3) := dk_180 0 7 (dk_at dksX4_passState_2 18 rfl rfl)
theorem dX4_passState_69 : decode cX4_passState 69 = .ok (.iload_n 2, 1) := dk_28 (dk_at dksX4_passState_2 21 rfl rfl)
theorem dX4_passState_70 : decode cX4_passState 70 = .ok (.iaload, 1) := dk_46 (dk_at dksX4_passState_2 22 rfl rfl)
theorem dX4_passState_71 : decode cX4_passState 71 = .ok (.invokevirtual 356, 3) := dk_182 1 100 (dk_at dksX4_passState_3 0 rfl rfl)
theorem dX4_passState_74 : decode cX4_passState 74 = .ok (.iastore, 1) := dk_79 (dk_at dksX4_passState_3 3 rfl rfl)
theorem dX4_passState_75 : decode cX4_passState 75 = .ok (.aload_n 0, 1) := dk_42 (dk_at dksX4_passState_3 4 rfl rfl)
theorem dX4_passState_76 : decode cX4_passState 76 = .ok (.getfield 13, 3) := dk_180 0 13 (dk_at dksX4_passState_3 5 rfl rfl)
theorem dX4_passState_79 : decode cX4_passState 79 = .ok (.iload_n 2, 1) := dk_28 (dk_at dksX4_passState_3 8 rfl rfl)
theorem dX4_passState_80 : decode cX4_passState 80 = .ok (.aload_n 0, 1) := dk_42 (dk_at dksX4_passState_3 9 rfl rfl)
theorem dX4_passState_81 : decode cX4_passState 81 = .ok (.aload_n 0, 1) := dk_42 (dk_at dksX4_passState_3 10 rfl rfl)
theorem dX4_passState_82 : decode cX4_passState 82 = .ok (.getfield 13, 3) := dk_180 0 13 (dk_at dksX4_passState_3 11 rfl rfl)
theorem dX4_passState_85 : decode cX4_passState 85 = .ok (.iload_n 2, 1) := dk_28 (dk_at dksX4_passState_3 14 rfl rfl)
theorem dX4_passState_86 : decode cX4_passState 86 = .ok (.iaload, 1) := dk_46 (dk_at dksX4_passState_3 15 rfl rfl)
theorem dX4_passState_87 : decode cX4_passState 87 = .ok (.invokevirtual 356, 3) := dk_182 1 100 (dk_at dksX4_passState_3 16 rfl rfl)
theorem dX4_passState_90 : decode cX4_passState 90 = .ok (.iastore, 1) := dk_79 (dk_at dksX4_passState_3 19 rfl rfl)
theorem dX4_passState_91 : decode cX4_passState 91 = .ok (.aload_n 0, 1) := dk_42 (dk_at dksX4_passState_3 20 rfl rfl)
theorem dX4_passState_92 : decode cX4_passState 92 = .ok (.getfield 16, 3) := dk_180 0 16 (dk_at dksX4_passState_3 21 rfl rfl)
theorem dX4_passState_95 : decode cX4_passState 95 = .ok (.iload_n 2, 1) := dk_28 (dk_at dksX4_passState_4 0 rfl rfl)
theorem dX4_passState_96 : decode cX4_passState 96 = .ok (.aload_n 0, 1) := dk_42 (dk_at dksX4_passState_4 1 rfl rfl)
theorem dX4_passState_97 : decode cX4_passState 97 = .ok (.aload_n 0, 1) := dk_42 (dk_at dksX4_passState_4 2 rfl rfl)
theorem dX4_passState_98 : decode cX4_passState 98 = .ok (.getfield 16, 3) := dk_180 0 16 (dk_at dksX4_passState_4 3 rfl rfl)
theorem dX4_passState_101 : decode cX4_passState 101 = .ok (.iload_n 2, 1) := dk_28 (dk_at dksX4_passState_4 6 rfl rfl)
theorem dX4_passState_102 : decode cX4_passState 102 = .ok (.iaload, 1) := dk_46 (dk_at dksX4_passState_4 7 rfl rfl)
theorem dX4_passState_103 : decode cX4_passState 103 = .ok (.invokevirtual 356, 3) := dk_182 1 100 (dk_at dksX4_passState_4 8 rfl rfl)
theorem dX4_passState_106 : decode cX4_passState 106 = .ok (.iastore, 1) := dk_79 (dk_at dksX4_passState_4 11 rfl rfl)
theorem dX4_passState_107 : decode cX4_passState 107 = .ok (.aload_n 0, 1) := dk_42 (dk_at dksX4_passState_4 12 rfl rfl)
theorem dX4_passState_108 : decode cX4_passState 108 = .ok (.getfield 19, 3) := dk_180 0 19 (dk_at dksX4_passState_4 13 rfl rfl)
theorem dX4_passState_111 : decode cX4_passState 111 = .ok (.iload_n 2, 1) := dk_28 (dk_at dksX4_passState_4 16 rfl rfl)
theorem dX4_passState_112 : decode cX4_passState 112 = .ok (.aload_n 0, 1) := dk_42 (dk_at dksX4_passState_4 17 rfl rfl)
theorem dX4_passState_113 : decode cX4_passState 113 = .ok (.aload_n 0, 1) := dk_42 (dk_at dksX4_passState_4 18 rfl rfl)
theorem dX4_passState_114 : decode cX4_passState 114 = .ok (.getfield 19, 3) := dk_180 0 19 (dk_at dksX4_passState_4 19 rfl rfl)
theorem dX4_passState_117 : decode cX4_passState 117 = .ok (.iload_n 2, 1) := dk_28 (dk_at dksX4_passState_4 22 rfl rfl)
theorem dX4_passState_118 : decode cX4_passState 118 = .ok (.iaload, 1) := dk_46 (dk_at dksX4_passState_4 23 rfl rfl)
theorem dX4_passState_119 : decode cX4_passState 119 = .ok (.invokevirtual 356, 3) := dk_182 1 100 (dk_at dksX4_passState_5 0 rfl rfl)
theorem dX4_passState_122 : decode cX4_passState 122 = .ok (.iastore, 1) := dk_79 (dk_at dksX4_passState_5 3 rfl rfl)
theorem dX4_passState_123 : decode cX4_passState 123 = .ok (.iinc 2 1, 3) := dk_132 2 1 (dk_at dksX4_passState_5 4 rfl rfl)
theorem dX4_passState_126 : decode cX4_passState 126 = .ok (.goto (-73), 3) := dk_167 255 183 (dk_at dksX4_passState_5 7 rfl rfl)
theorem dX4_passState_129 : decode cX4_passState 129 = .ok (.return_, 1) := dk_177 (dk_at dksX4_passState_5 10 rfl rfl)
abbrev cX4_passes : ByteArray := prog_21_method_102_code
def yX4_passes : MethodName := ⟨RX4, "passes", "(I)I"⟩
def dkwX4_passes_1 : List UInt8 := [180, 0, 81, 42, 180, 1, 97, 28, 79, 42, 89, 180, 1, 97, 4, 96, 181, 1, 97, 28, 172]
abbrev dktX4_passes_1 : List UInt8 := dkwX4_passes_1 ++ []
def dkwX4_passes_0 : List UInt8 := [42, 180, 1, 94, 153, 0, 7, 27, 167, 0, 12, 42, 180, 0, 81, 42, 180, 1, 97, 46, 61, 42]
abbrev dktX4_passes_0 : List UInt8 := dkwX4_passes_0 ++ dktX4_passes_1
theorem dksX4_passes_0 : cX4_passes.data.toList.drop 0 = dktX4_passes_0 := by decide +kernel
theorem dksX4_passes_1 : cX4_passes.data.toList.drop 22 = dktX4_passes_1 := dk_seg dksX4_passes_0 22 rfl rfl
theorem dX4_passes_0 : decode cX4_passes 0 = .ok (.aload_n 0, 1) := dk_42 (dk_at dksX4_passes_0 0 rfl rfl)
theorem dX4_passes_1 : decode cX4_passes 1 = .ok (.getfield 350, 3) := dk_180 1 94 (dk_at dksX4_passes_0 1 rfl rfl)
theorem dX4_passes_4 : decode cX4_passes 4 = .ok (.ifCond .eq 7, 3) := dk_153 0 7 (dk_at dksX4_passes_0 4 rfl rfl)
theorem dX4_passes_7 : decode cX4_passes 7 = .ok (.iload_n 1, 1) := dk_27 (dk_at dksX4_passes_0 7 rfl rfl)
theorem dX4_passes_8 : decode cX4_passes 8 = .ok (.goto 12, 3) := dk_167 0 12 (dk_at dksX4_passes_0 8 rfl rfl)
theorem dX4_passes_11 : decode cX4_passes 11 = .ok (.aload_n 0, 1) := dk_42 (dk_at dksX4_passes_0 11 rfl rfl)
theorem dX4_passes_12 : decode cX4_passes 12 = .ok (.getfield 81, 3) := dk_180 0 81 (dk_at dksX4_passes_0 12 rfl rfl)
theorem dX4_passes_15 : decode cX4_passes 15 = .ok (.aload_n 0, 1) := dk_42 (dk_at dksX4_passes_0 15 rfl rfl)
theorem dX4_passes_16 : decode cX4_passes 16 = .ok (.getfield 353, 3) := dk_180 1 97 (dk_at dksX4_passes_0 16 rfl rfl)
theorem dX4_passes_19 : decode cX4_passes 19 = .ok (.iaload, 1) := dk_46 (dk_at dksX4_passes_0 19 rfl rfl)
theorem dX4_passes_20 : decode cX4_passes 20 = .ok (.istore_n 2, 1) := dk_61 (dk_at dksX4_passes_0 20 rfl rfl)
theorem dX4_passes_21 : decode cX4_passes 21 = .ok (.aload_n 0, 1) := dk_42 (dk_at dksX4_passes_0 21 rfl rfl)
theorem dX4_passes_22 : decode cX4_passes 22 = .ok (.getfield 81, 3) := dk_180 0 81 (dk_at dksX4_passes_1 0 rfl rfl)
theorem dX4_passes_25 : decode cX4_passes 25 = .ok (.aload_n 0, 1) := dk_42 (dk_at dksX4_passes_1 3 rfl rfl)
theorem dX4_passes_26 : decode cX4_passes 26 = .ok (.getfield 353, 3) := dk_180 1 97 (dk_at dksX4_passes_1 4 rfl rfl)
theorem dX4_passes_29 : decode cX4_passes 29 = .ok (.iload_n 2, 1) := dk_28 (dk_at dksX4_passes_1 7 rfl rfl)
theorem dX4_passes_30 : decode cX4_passes 30 = .ok (.iastore, 1) := dk_79 (dk_at dksX4_passes_1 8 rfl rfl)
theorem dX4_passes_31 : decode cX4_passes 31 = .ok (.aload_n 0, 1) := dk_42 (dk_at dksX4_passes_1 9 rfl rfl)
theorem dX4_passes_32 : decode cX4_passes 32 = .ok (.dup, 1) := dk_89 (dk_at dksX4_passes_1 10 rfl rfl)
theorem dX4_passes_33 : decode cX4_passes 33 = .ok (.getfield 353, 3) := dk_180 1 97 (dk_at dksX4_passes_1 11 rfl rfl)
theorem dX4_passes_36 : decode cX4_passes 36 = .ok (.iconst 1, 1) := dk_4 (dk_at dksX4_passes_1 14 rfl rfl)
theorem dX4_passes_37 : decode cX4_passes 37 = .ok (.iadd, 1) := dk_96 (dk_at dksX4_passes_1 15 rfl rfl)
theorem dX4_passes_38 : decode cX4_passes 38 = .ok (.putfield 353, 3) := dk_181 1 97 (dk_at dksX4_passes_1 16 rfl rfl)
theorem dX4_passes_41 : decode cX4_passes 41 = .ok (.iload_n 2, 1) := dk_28 (dk_at dksX4_passes_1 19 rfl rfl)
theorem dX4_passes_42 : decode cX4_passes 42 = .ok (.ireturn, 1) := dk_172 (dk_at dksX4_passes_1 20 rfl rfl)
abbrev cX4_restore : ByteArray := prog_21_method_105_code
def yX4_restore : MethodName := ⟨RX4, "restore", "()V"⟩
def dkwX4_restore_1 : List UInt8 := [42, 3, 182, 1, 106, 42, 3, 181, 0, 155, 42, 182, 0, 159, 177]
abbrev dktX4_restore_1 : List UInt8 := dkwX4_restore_1 ++ []
def dkwX4_restore_0 : List UInt8 := [42, 42, 180, 1, 103, 153, 0, 7, 3, 167, 0, 4, 4, 181, 0, 84, 42, 180, 1, 103, 154, 0, 4, 177]
abbrev dktX4_restore_0 : List UInt8 := dkwX4_restore_0 ++ dktX4_restore_1
theorem dksX4_restore_0 : cX4_restore.data.toList.drop 0 = dktX4_restore_0 := by decide +kernel
theorem dksX4_restore_1 : cX4_restore.data.toList.drop 24 = dktX4_restore_1 := dk_seg dksX4_restore_0 24 rfl rfl
theorem dX4_restore_0 : decode cX4_restore 0 = .ok (.aload_n 0, 1) := dk_42 (dk_at dksX4_restore_0 0 rfl rfl)
theorem dX4_restore_1 : decode cX4_restore 1 = .ok (.aload_n 0, 1) := dk_42 (dk_at dksX4_restore_0 1 rfl rfl)
theorem dX4_restore_2 : decode cX4_restore 2 = .ok (.getfield 359, 3) := dk_180 1 103 (dk_at dksX4_restore_0 2 rfl rfl)
theorem dX4_restore_5 : decode cX4_restore 5 = .ok (.ifCond .eq 7, 3) := dk_153 0 7 (dk_at dksX4_restore_0 5 rfl rfl)
theorem dX4_restore_8 : decode cX4_restore 8 = .ok (.iconst 0, 1) := dk_3 (dk_at dksX4_restore_0 8 rfl rfl)
theorem dX4_restore_9 : decode cX4_restore 9 = .ok (.goto 4, 3) := dk_167 0 4 (dk_at dksX4_restore_0 9 rfl rfl)
theorem dX4_restore_12 : decode cX4_restore 12 = .ok (.iconst 1, 1) := dk_4 (dk_at dksX4_restore_0 12 rfl rfl)
theorem dX4_restore_13 : decode cX4_restore 13 = .ok (.putfield 84, 3) := dk_181 0 84 (dk_at dksX4_restore_0 13 rfl rfl)
theorem dX4_restore_16 : decode cX4_restore 16 = .ok (.aload_n 0, 1) := dk_42 (dk_at dksX4_restore_0 16 rfl rfl)
theorem dX4_restore_17 : decode cX4_restore 17 = .ok (.getfield 359, 3) := dk_180 1 103 (dk_at dksX4_restore_0 17 rfl rfl)
theorem dX4_restore_20 : decode cX4_restore 20 = .ok (.ifCond .ne 4, 3) := dk_154 0 4 (dk_at dksX4_restore_0 20 rfl rfl)
theorem dX4_restore_23 : decode cX4_restore 23 = .ok (.return_, 1) := dk_177 (dk_at dksX4_restore_0 23 rfl rfl)
theorem dX4_restore_24 : decode cX4_restore 24 = .ok (.aload_n 0, 1) := dk_42 (dk_at dksX4_restore_1 0 rfl rfl)
theorem dX4_restore_25 : decode cX4_restore 25 = .ok (.iconst 0, 1) := dk_3 (dk_at dksX4_restore_1 1 rfl rfl)
theorem dX4_restore_26 : decode cX4_restore 26 = .ok (.invokevirtual 362, 3) := dk_182 1 106 (dk_at dksX4_restore_1 2 rfl rfl)
theorem dX4_restore_29 : decode cX4_restore 29 = .ok (.aload_n 0, 1) := dk_42 (dk_at dksX4_restore_1 5 rfl rfl)
theorem dX4_restore_30 : decode cX4_restore 30 = .ok (.iconst 0, 1) := dk_3 (dk_at dksX4_restore_1 6 rfl rfl)
theorem dX4_restore_31 : decode cX4_restore 31 = .ok (.putfield 155, 3) := dk_181 0 155 (dk_at dksX4_restore_1 7 rfl rfl)
theorem dX4_restore_34 : decode cX4_restore 34 = .ok (.aload_n 0, 1) := dk_42 (dk_at dksX4_restore_1 10 rfl rfl)
theorem dX4_restore_35 : decode cX4_restore 35 = .ok (.invokevirtual 159, 3) := dk_182 0 159 (dk_at dksX4_restore_1 11 rfl rfl)
theorem dX4_restore_38 : decode cX4_restore 38 = .ok (.return_, 1) := dk_177 (dk_at dksX4_restore_1 14 rfl rfl)
theorem q160 : (Jvm.Cond.initialized "PointerAnalyzerModel") ∈ lw_all := lw_g (lw_at lw_m1 38 rfl) rfl
theorem q357 : (Jvm.Cond.selects "PointerAnalyzerModel" ({ cls := "java/lang/Object", name := "getClass", desc := "()Ljava/lang/Class;" } : Jvm.MethodName) ({ cls := "java/lang/Object", name := "getClass", desc := "()Ljava/lang/Class;" } : Jvm.MethodName)) ∈ lw_all := lw_g (lw_at lw_m1 235 rfl) rfl
theorem q780 : (Jvm.Cond.selects "PointerAnalyzerModel" ({ cls := "java/lang/Object", name := "equals", desc := "(Ljava/lang/Object;)Z" } : Jvm.MethodName) ({ cls := "java/lang/Object", name := "equals", desc := "(Ljava/lang/Object;)Z" } : Jvm.MethodName)) ∈ lw_all := lw_g (lw_at lw_m3 178 rfl) rfl
theorem q2892 : (Jvm.Cond.instantiable "PointerAnalyzerModel" (45 : Nat)) ∈ lw_all := lw_g (lw_at lw_m12 130 rfl) rfl
theorem q2894 : (Jvm.Cond.instanceMethod ({ cls := "PointerAnalyzerModel", name := "<init>", desc := "()V" } : Jvm.MethodName)) ∈ lw_all := lw_g (lw_at lw_m12 132 rfl) rfl
theorem q2895 : (Jvm.Cond.code ({ cls := "PointerAnalyzerModel", name := "<init>", desc := "()V" } : Jvm.MethodName) prog_21_method_1_code (1 : Nat) (Option.none : Option Jvm.ClassFile.FieldType)) ∈ lw_all := lw_g (lw_at lw_m12 133 rfl) rfl
theorem q2896 : (Jvm.Cond.methodLink "PointerAnalyzerModel" (1 : Nat) ({ cls := "java/lang/Object", name := "<init>", desc := "()V" } : Jvm.MethodName)) ∈ lw_all := lw_g (lw_at lw_m12 134 rfl) rfl
theorem q2897 : (Jvm.Cond.fieldLink "PointerAnalyzerModel" (84 : Nat) "PointerAnalyzerModel" "thrown" "I") ∈ lw_all := lw_g (lw_at lw_m12 135 rfl) rfl
theorem q2898 : (Jvm.Cond.fieldLink "PointerAnalyzerModel" (7 : Nat) "PointerAnalyzerModel" "kinds" "[I") ∈ lw_all := lw_g (lw_at lw_m12 136 rfl) rfl
theorem q2899 : (Jvm.Cond.fieldLink "PointerAnalyzerModel" (13 : Nat) "PointerAnalyzerModel" "ofV" "[I") ∈ lw_all := lw_g (lw_at lw_m12 137 rfl) rfl
theorem q2900 : (Jvm.Cond.fieldLink "PointerAnalyzerModel" (16 : Nat) "PointerAnalyzerModel" "ofW" "[I") ∈ lw_all := lw_g (lw_at lw_m12 138 rfl) rfl
theorem q2901 : (Jvm.Cond.fieldLink "PointerAnalyzerModel" (19 : Nat) "PointerAnalyzerModel" "ofN" "[I") ∈ lw_all := lw_g (lw_at lw_m12 139 rfl) rfl
theorem q2902 : (Jvm.Cond.fieldLink "PointerAnalyzerModel" (22 : Nat) "PointerAnalyzerModel" "size" "[I") ∈ lw_all := lw_g (lw_at lw_m12 140 rfl) rfl
theorem q2903 : (Jvm.Cond.fieldLink "PointerAnalyzerModel" (171 : Nat) "PointerAnalyzerModel" "limit" "I") ∈ lw_all := lw_g (lw_at lw_m12 141 rfl) rfl
theorem q2904 : (Jvm.Cond.fieldLink "PointerAnalyzerModel" (25 : Nat) "PointerAnalyzerModel" "text" "[I") ∈ lw_all := lw_g (lw_at lw_m12 142 rfl) rfl
theorem q2905 : (Jvm.Cond.fieldLink "PointerAnalyzerModel" (101 : Nat) "PointerAnalyzerModel" "length" "I") ∈ lw_all := lw_g (lw_at lw_m12 143 rfl) rfl
theorem q2906 : (Jvm.Cond.fieldLink "PointerAnalyzerModel" (104 : Nat) "PointerAnalyzerModel" "at" "I") ∈ lw_all := lw_g (lw_at lw_m12 144 rfl) rfl
theorem q2907 : (Jvm.Cond.fieldLink "PointerAnalyzerModel" (28 : Nat) "PointerAnalyzerModel" "faultAt" "I") ∈ lw_all := lw_g (lw_at lw_m12 145 rfl) rfl
theorem q2908 : (Jvm.Cond.fieldLink "PointerAnalyzerModel" (111 : Nat) "PointerAnalyzerModel" "readNew" "I") ∈ lw_all := lw_g (lw_at lw_m12 146 rfl) rfl
theorem q2909 : (Jvm.Cond.fieldLink "PointerAnalyzerModel" (114 : Nat) "PointerAnalyzerModel" "readCalls" "I") ∈ lw_all := lw_g (lw_at lw_m12 147 rfl) rfl
theorem q2910 : (Jvm.Cond.fieldLink "PointerAnalyzerModel" (32 : Nat) "PointerAnalyzerModel" "contextFunction" "[I") ∈ lw_all := lw_g (lw_at lw_m12 148 rfl) rfl
theorem q2911 : (Jvm.Cond.fieldLink "PointerAnalyzerModel" (35 : Nat) "PointerAnalyzerModel" "contextCode" "[I") ∈ lw_all := lw_g (lw_at lw_m12 149 rfl) rfl
theorem q2912 : (Jvm.Cond.fieldLink "PointerAnalyzerModel" (174 : Nat) "PointerAnalyzerModel" "contexts" "I") ∈ lw_all := lw_g (lw_at lw_m12 150 rfl) rfl
theorem q2913 : (Jvm.Cond.fieldLink "PointerAnalyzerModel" (38 : Nat) "PointerAnalyzerModel" "points" "[J") ∈ lw_all := lw_g (lw_at lw_m12 151 rfl) rfl
theorem q2914 : (Jvm.Cond.fieldLink "PointerAnalyzerModel" (42 : Nat) "PointerAnalyzerModel" "before" "[J") ∈ lw_all := lw_g (lw_at lw_m12 152 rfl) rfl
theorem q2915 : (Jvm.Cond.fieldLink "PointerAnalyzerModel" (155 : Nat) "PointerAnalyzerModel" "isFresh" "Z") ∈ lw_all := lw_g (lw_at lw_m12 153 rfl) rfl
theorem q2916 : (Jvm.Cond.fieldLink "PointerAnalyzerModel" (191 : Nat) "PointerAnalyzerModel" "isChanged" "Z") ∈ lw_all := lw_g (lw_at lw_m12 154 rfl) rfl
theorem q2917 : (Jvm.Cond.fieldLink "PointerAnalyzerModel" (45 : Nat) "PointerAnalyzerModel" "rankOf" "[I") ∈ lw_all := lw_g (lw_at lw_m12 155 rfl) rfl
theorem q2918 : (Jvm.Cond.fieldLink "PointerAnalyzerModel" (48 : Nat) "PointerAnalyzerModel" "reasonOf" "[I") ∈ lw_all := lw_g (lw_at lw_m12 156 rfl) rfl
theorem q2919 : (Jvm.Cond.fieldLink "PointerAnalyzerModel" (219 : Nat) "PointerAnalyzerModel" "rounds" "I") ∈ lw_all := lw_g (lw_at lw_m12 157 rfl) rfl
theorem q2920 : (Jvm.Cond.fieldLink "PointerAnalyzerModel" (51 : Nat) "PointerAnalyzerModel" "parent" "[I") ∈ lw_all := lw_g (lw_at lw_m12 158 rfl) rfl
theorem q2921 : (Jvm.Cond.fieldLink "PointerAnalyzerModel" (54 : Nat) "PointerAnalyzerModel" "pointee" "[I") ∈ lw_all := lw_g (lw_at lw_m12 159 rfl) rfl
theorem q2922 : (Jvm.Cond.fieldLink "PointerAnalyzerModel" (57 : Nat) "PointerAnalyzerModel" "pairA" "[I") ∈ lw_all := lw_g (lw_at lw_m12 160 rfl) rfl
theorem q2923 : (Jvm.Cond.fieldLink "PointerAnalyzerModel" (60 : Nat) "PointerAnalyzerModel" "pairB" "[I") ∈ lw_all := lw_g (lw_at lw_m12 161 rfl) rfl
theorem q2924 : (Jvm.Cond.fieldLink "PointerAnalyzerModel" (278 : Nat) "PointerAnalyzerModel" "terms" "I") ∈ lw_all := lw_g (lw_at lw_m12 162 rfl) rfl
theorem q2925 : (Jvm.Cond.fieldLink "PointerAnalyzerModel" (287 : Nat) "PointerAnalyzerModel" "pairs" "I") ∈ lw_all := lw_g (lw_at lw_m12 163 rfl) rfl
theorem q2926 : (Jvm.Cond.fieldLink "PointerAnalyzerModel" (63 : Nat) "PointerAnalyzerModel" "memory" "[I") ∈ lw_all := lw_g (lw_at lw_m12 164 rfl) rfl
theorem q2927 : (Jvm.Cond.fieldLink "PointerAnalyzerModel" (66 : Nat) "PointerAnalyzerModel" "targetAt" "[I") ∈ lw_all := lw_g (lw_at lw_m12 165 rfl) rfl
theorem q2928 : (Jvm.Cond.fieldLink "PointerAnalyzerModel" (69 : Nat) "PointerAnalyzerModel" "stackFunction" "[I") ∈ lw_all := lw_g (lw_at lw_m12 166 rfl) rfl
theorem q2929 : (Jvm.Cond.fieldLink "PointerAnalyzerModel" (72 : Nat) "PointerAnalyzerModel" "stackNext" "[I") ∈ lw_all := lw_g (lw_at lw_m12 167 rfl) rfl
theorem q2930 : (Jvm.Cond.fieldLink "PointerAnalyzerModel" (75 : Nat) "PointerAnalyzerModel" "stackBase" "[I") ∈ lw_all := lw_g (lw_at lw_m12 168 rfl) rfl
theorem q2931 : (Jvm.Cond.fieldLink "PointerAnalyzerModel" (78 : Nat) "PointerAnalyzerModel" "seen" "[J") ∈ lw_all := lw_g (lw_at lw_m12 169 rfl) rfl
theorem q2932 : (Jvm.Cond.fieldLink "PointerAnalyzerModel" (319 : Nat) "PointerAnalyzerModel" "deep" "I") ∈ lw_all := lw_g (lw_at lw_m12 170 rfl) rfl
theorem q2933 : (Jvm.Cond.fieldLink "PointerAnalyzerModel" (322 : Nat) "PointerAnalyzerModel" "activations" "I") ∈ lw_all := lw_g (lw_at lw_m12 171 rfl) rfl
theorem q2934 : (Jvm.Cond.fieldLink "PointerAnalyzerModel" (316 : Nat) "PointerAnalyzerModel" "objectCount" "I") ∈ lw_all := lw_g (lw_at lw_m12 172 rfl) rfl
theorem q2935 : (Jvm.Cond.fieldLink "PointerAnalyzerModel" (313 : Nat) "PointerAnalyzerModel" "faultCount" "I") ∈ lw_all := lw_g (lw_at lw_m12 173 rfl) rfl
theorem q2936 : (Jvm.Cond.fieldLink "PointerAnalyzerModel" (338 : Nat) "PointerAnalyzerModel" "executed" "I") ∈ lw_all := lw_g (lw_at lw_m12 174 rfl) rfl
theorem q2937 : (Jvm.Cond.fieldLink "PointerAnalyzerModel" (81 : Nat) "PointerAnalyzerModel" "saved" "[I") ∈ lw_all := lw_g (lw_at lw_m12 175 rfl) rfl
theorem q2938 : (Jvm.Cond.fieldLink "PointerAnalyzerModel" (359 : Nat) "PointerAnalyzerModel" "isSaved" "Z") ∈ lw_all := lw_g (lw_at lw_m12 176 rfl) rfl
theorem q2939 : (Jvm.Cond.fieldLink "PointerAnalyzerModel" (350 : Nat) "PointerAnalyzerModel" "isSaving" "Z") ∈ lw_all := lw_g (lw_at lw_m12 177 rfl) rfl
theorem q2940 : (Jvm.Cond.fieldLink "PointerAnalyzerModel" (353 : Nat) "PointerAnalyzerModel" "cursor" "I") ∈ lw_all := lw_g (lw_at lw_m12 178 rfl) rfl
theorem q2941 : (Jvm.Cond.lays "PointerAnalyzerModel" "PointerAnalyzerModel" "thrown" "I") ∈ lw_all := lw_g (lw_at lw_m12 179 rfl) rfl
theorem q2942 : (Jvm.Cond.soleField "PointerAnalyzerModel" "thrown") ∈ lw_all := lw_g (lw_at lw_m12 180 rfl) rfl
theorem q2943 : (Jvm.Cond.laysFinal "PointerAnalyzerModel" "PointerAnalyzerModel" "kinds" "[I") ∈ lw_all := lw_g (lw_at lw_m12 181 rfl) rfl
theorem q2944 : (Jvm.Cond.soleField "PointerAnalyzerModel" "kinds") ∈ lw_all := lw_g (lw_at lw_m12 182 rfl) rfl
theorem q2945 : (Jvm.Cond.laysFinal "PointerAnalyzerModel" "PointerAnalyzerModel" "ofV" "[I") ∈ lw_all := lw_g (lw_at lw_m12 183 rfl) rfl
theorem q2946 : (Jvm.Cond.soleField "PointerAnalyzerModel" "ofV") ∈ lw_all := lw_g (lw_at lw_m12 184 rfl) rfl
theorem q2947 : (Jvm.Cond.laysFinal "PointerAnalyzerModel" "PointerAnalyzerModel" "ofW" "[I") ∈ lw_all := lw_g (lw_at lw_m12 185 rfl) rfl
theorem q2948 : (Jvm.Cond.soleField "PointerAnalyzerModel" "ofW") ∈ lw_all := lw_g (lw_at lw_m12 186 rfl) rfl
theorem q2949 : (Jvm.Cond.laysFinal "PointerAnalyzerModel" "PointerAnalyzerModel" "ofN" "[I") ∈ lw_all := lw_g (lw_at lw_m12 187 rfl) rfl
theorem q2950 : (Jvm.Cond.soleField "PointerAnalyzerModel" "ofN") ∈ lw_all := lw_g (lw_at lw_m12 188 rfl) rfl
theorem q2951 : (Jvm.Cond.laysFinal "PointerAnalyzerModel" "PointerAnalyzerModel" "size" "[I") ∈ lw_all := lw_g (lw_at lw_m12 189 rfl) rfl
theorem q2952 : (Jvm.Cond.soleField "PointerAnalyzerModel" "size") ∈ lw_all := lw_g (lw_at lw_m12 190 rfl) rfl
theorem q2953 : (Jvm.Cond.lays "PointerAnalyzerModel" "PointerAnalyzerModel" "limit" "I") ∈ lw_all := lw_g (lw_at lw_m12 191 rfl) rfl
theorem q2954 : (Jvm.Cond.soleField "PointerAnalyzerModel" "limit") ∈ lw_all := lw_g (lw_at lw_m12 192 rfl) rfl
theorem q2955 : (Jvm.Cond.laysFinal "PointerAnalyzerModel" "PointerAnalyzerModel" "text" "[I") ∈ lw_all := lw_g (lw_at lw_m12 193 rfl) rfl
theorem q2956 : (Jvm.Cond.soleField "PointerAnalyzerModel" "text") ∈ lw_all := lw_g (lw_at lw_m12 194 rfl) rfl
theorem q2957 : (Jvm.Cond.lays "PointerAnalyzerModel" "PointerAnalyzerModel" "length" "I") ∈ lw_all := lw_g (lw_at lw_m12 195 rfl) rfl
theorem q2958 : (Jvm.Cond.soleField "PointerAnalyzerModel" "length") ∈ lw_all := lw_g (lw_at lw_m12 196 rfl) rfl
theorem q2959 : (Jvm.Cond.lays "PointerAnalyzerModel" "PointerAnalyzerModel" "at" "I") ∈ lw_all := lw_g (lw_at lw_m12 197 rfl) rfl
theorem q2960 : (Jvm.Cond.soleField "PointerAnalyzerModel" "at") ∈ lw_all := lw_g (lw_at lw_m12 198 rfl) rfl
theorem q2961 : (Jvm.Cond.lays "PointerAnalyzerModel" "PointerAnalyzerModel" "faultAt" "I") ∈ lw_all := lw_g (lw_at lw_m12 199 rfl) rfl
theorem q2962 : (Jvm.Cond.soleField "PointerAnalyzerModel" "faultAt") ∈ lw_all := lw_g (lw_at lw_m12 200 rfl) rfl
theorem q2963 : (Jvm.Cond.lays "PointerAnalyzerModel" "PointerAnalyzerModel" "reading" "I") ∈ lw_all := lw_g (lw_at lw_m12 201 rfl) rfl
theorem q2964 : (Jvm.Cond.soleField "PointerAnalyzerModel" "reading") ∈ lw_all := lw_g (lw_at lw_m12 202 rfl) rfl
theorem q2965 : (Jvm.Cond.lays "PointerAnalyzerModel" "PointerAnalyzerModel" "readNew" "I") ∈ lw_all := lw_g (lw_at lw_m12 203 rfl) rfl
theorem q2966 : (Jvm.Cond.soleField "PointerAnalyzerModel" "readNew") ∈ lw_all := lw_g (lw_at lw_m12 204 rfl) rfl
theorem q2967 : (Jvm.Cond.lays "PointerAnalyzerModel" "PointerAnalyzerModel" "readCalls" "I") ∈ lw_all := lw_g (lw_at lw_m12 205 rfl) rfl
theorem q2968 : (Jvm.Cond.soleField "PointerAnalyzerModel" "readCalls") ∈ lw_all := lw_g (lw_at lw_m12 206 rfl) rfl
theorem q2969 : (Jvm.Cond.laysFinal "PointerAnalyzerModel" "PointerAnalyzerModel" "contextFunction" "[I") ∈ lw_all := lw_g (lw_at lw_m12 207 rfl) rfl
theorem q2970 : (Jvm.Cond.soleField "PointerAnalyzerModel" "contextFunction") ∈ lw_all := lw_g (lw_at lw_m12 208 rfl) rfl
theorem q2971 : (Jvm.Cond.laysFinal "PointerAnalyzerModel" "PointerAnalyzerModel" "contextCode" "[I") ∈ lw_all := lw_g (lw_at lw_m12 209 rfl) rfl
theorem q2972 : (Jvm.Cond.soleField "PointerAnalyzerModel" "contextCode") ∈ lw_all := lw_g (lw_at lw_m12 210 rfl) rfl
theorem q2973 : (Jvm.Cond.lays "PointerAnalyzerModel" "PointerAnalyzerModel" "contexts" "I") ∈ lw_all := lw_g (lw_at lw_m12 211 rfl) rfl
theorem q2974 : (Jvm.Cond.soleField "PointerAnalyzerModel" "contexts") ∈ lw_all := lw_g (lw_at lw_m12 212 rfl) rfl
theorem q2975 : (Jvm.Cond.laysFinal "PointerAnalyzerModel" "PointerAnalyzerModel" "points" "[J") ∈ lw_all := lw_g (lw_at lw_m12 213 rfl) rfl
theorem q2976 : (Jvm.Cond.soleField "PointerAnalyzerModel" "points") ∈ lw_all := lw_g (lw_at lw_m12 214 rfl) rfl
theorem q2977 : (Jvm.Cond.laysFinal "PointerAnalyzerModel" "PointerAnalyzerModel" "before" "[J") ∈ lw_all := lw_g (lw_at lw_m12 215 rfl) rfl
theorem q2978 : (Jvm.Cond.soleField "PointerAnalyzerModel" "before") ∈ lw_all := lw_g (lw_at lw_m12 216 rfl) rfl
theorem q2979 : (Jvm.Cond.lays "PointerAnalyzerModel" "PointerAnalyzerModel" "isFresh" "Z") ∈ lw_all := lw_g (lw_at lw_m12 217 rfl) rfl
theorem q2980 : (Jvm.Cond.soleField "PointerAnalyzerModel" "isFresh") ∈ lw_all := lw_g (lw_at lw_m12 218 rfl) rfl
theorem q2981 : (Jvm.Cond.lays "PointerAnalyzerModel" "PointerAnalyzerModel" "isChanged" "Z") ∈ lw_all := lw_g (lw_at lw_m12 219 rfl) rfl
theorem q2982 : (Jvm.Cond.soleField "PointerAnalyzerModel" "isChanged") ∈ lw_all := lw_g (lw_at lw_m12 220 rfl) rfl
theorem q2983 : (Jvm.Cond.laysFinal "PointerAnalyzerModel" "PointerAnalyzerModel" "rankOf" "[I") ∈ lw_all := lw_g (lw_at lw_m12 221 rfl) rfl
theorem q2984 : (Jvm.Cond.soleField "PointerAnalyzerModel" "rankOf") ∈ lw_all := lw_g (lw_at lw_m12 222 rfl) rfl
theorem q2985 : (Jvm.Cond.laysFinal "PointerAnalyzerModel" "PointerAnalyzerModel" "reasonOf" "[I") ∈ lw_all := lw_g (lw_at lw_m12 223 rfl) rfl
theorem q2986 : (Jvm.Cond.soleField "PointerAnalyzerModel" "reasonOf") ∈ lw_all := lw_g (lw_at lw_m12 224 rfl) rfl
theorem q2987 : (Jvm.Cond.lays "PointerAnalyzerModel" "PointerAnalyzerModel" "rounds" "I") ∈ lw_all := lw_g (lw_at lw_m12 225 rfl) rfl
theorem q2988 : (Jvm.Cond.soleField "PointerAnalyzerModel" "rounds") ∈ lw_all := lw_g (lw_at lw_m12 226 rfl) rfl
theorem q2989 : (Jvm.Cond.laysFinal "PointerAnalyzerModel" "PointerAnalyzerModel" "parent" "[I") ∈ lw_all := lw_g (lw_at lw_m12 227 rfl) rfl
theorem q2990 : (Jvm.Cond.soleField "PointerAnalyzerModel" "parent") ∈ lw_all := lw_g (lw_at lw_m12 228 rfl) rfl
theorem q2991 : (Jvm.Cond.laysFinal "PointerAnalyzerModel" "PointerAnalyzerModel" "pointee" "[I") ∈ lw_all := lw_g (lw_at lw_m12 229 rfl) rfl
theorem q2992 : (Jvm.Cond.soleField "PointerAnalyzerModel" "pointee") ∈ lw_all := lw_g (lw_at lw_m12 230 rfl) rfl
theorem q2993 : (Jvm.Cond.laysFinal "PointerAnalyzerModel" "PointerAnalyzerModel" "pairA" "[I") ∈ lw_all := lw_g (lw_at lw_m12 231 rfl) rfl
theorem q2994 : (Jvm.Cond.soleField "PointerAnalyzerModel" "pairA") ∈ lw_all := lw_g (lw_at lw_m12 232 rfl) rfl
theorem q2995 : (Jvm.Cond.laysFinal "PointerAnalyzerModel" "PointerAnalyzerModel" "pairB" "[I") ∈ lw_all := lw_g (lw_at lw_m12 233 rfl) rfl
theorem q2996 : (Jvm.Cond.soleField "PointerAnalyzerModel" "pairB") ∈ lw_all := lw_g (lw_at lw_m12 234 rfl) rfl
theorem q2997 : (Jvm.Cond.lays "PointerAnalyzerModel" "PointerAnalyzerModel" "terms" "I") ∈ lw_all := lw_g (lw_at lw_m12 235 rfl) rfl
theorem q2998 : (Jvm.Cond.soleField "PointerAnalyzerModel" "terms") ∈ lw_all := lw_g (lw_at lw_m12 236 rfl) rfl
theorem q2999 : (Jvm.Cond.lays "PointerAnalyzerModel" "PointerAnalyzerModel" "pairs" "I") ∈ lw_all := lw_g (lw_at lw_m12 237 rfl) rfl
theorem q3000 : (Jvm.Cond.soleField "PointerAnalyzerModel" "pairs") ∈ lw_all := lw_g (lw_at lw_m12 238 rfl) rfl
theorem q3001 : (Jvm.Cond.laysFinal "PointerAnalyzerModel" "PointerAnalyzerModel" "memory" "[I") ∈ lw_all := lw_g (lw_at lw_m12 239 rfl) rfl
theorem q3002 : (Jvm.Cond.soleField "PointerAnalyzerModel" "memory") ∈ lw_all := lw_g (lw_at lw_m13 0 rfl) rfl
theorem q3003 : (Jvm.Cond.laysFinal "PointerAnalyzerModel" "PointerAnalyzerModel" "targetAt" "[I") ∈ lw_all := lw_g (lw_at lw_m13 1 rfl) rfl
theorem q3004 : (Jvm.Cond.soleField "PointerAnalyzerModel" "targetAt") ∈ lw_all := lw_g (lw_at lw_m13 2 rfl) rfl
theorem q3005 : (Jvm.Cond.laysFinal "PointerAnalyzerModel" "PointerAnalyzerModel" "stackFunction" "[I") ∈ lw_all := lw_g (lw_at lw_m13 3 rfl) rfl
theorem q3006 : (Jvm.Cond.soleField "PointerAnalyzerModel" "stackFunction") ∈ lw_all := lw_g (lw_at lw_m13 4 rfl) rfl
theorem q3007 : (Jvm.Cond.laysFinal "PointerAnalyzerModel" "PointerAnalyzerModel" "stackNext" "[I") ∈ lw_all := lw_g (lw_at lw_m13 5 rfl) rfl
theorem q3008 : (Jvm.Cond.soleField "PointerAnalyzerModel" "stackNext") ∈ lw_all := lw_g (lw_at lw_m13 6 rfl) rfl
theorem q3009 : (Jvm.Cond.laysFinal "PointerAnalyzerModel" "PointerAnalyzerModel" "stackBase" "[I") ∈ lw_all := lw_g (lw_at lw_m13 7 rfl) rfl
theorem q3010 : (Jvm.Cond.soleField "PointerAnalyzerModel" "stackBase") ∈ lw_all := lw_g (lw_at lw_m13 8 rfl) rfl
theorem q3011 : (Jvm.Cond.laysFinal "PointerAnalyzerModel" "PointerAnalyzerModel" "seen" "[J") ∈ lw_all := lw_g (lw_at lw_m13 9 rfl) rfl
theorem q3012 : (Jvm.Cond.soleField "PointerAnalyzerModel" "seen") ∈ lw_all := lw_g (lw_at lw_m13 10 rfl) rfl
theorem q3013 : (Jvm.Cond.lays "PointerAnalyzerModel" "PointerAnalyzerModel" "deep" "I") ∈ lw_all := lw_g (lw_at lw_m13 11 rfl) rfl
theorem q3014 : (Jvm.Cond.soleField "PointerAnalyzerModel" "deep") ∈ lw_all := lw_g (lw_at lw_m13 12 rfl) rfl
theorem q3015 : (Jvm.Cond.lays "PointerAnalyzerModel" "PointerAnalyzerModel" "activations" "I") ∈ lw_all := lw_g (lw_at lw_m13 13 rfl) rfl
theorem q3016 : (Jvm.Cond.soleField "PointerAnalyzerModel" "activations") ∈ lw_all := lw_g (lw_at lw_m13 14 rfl) rfl
theorem q3017 : (Jvm.Cond.lays "PointerAnalyzerModel" "PointerAnalyzerModel" "objectCount" "I") ∈ lw_all := lw_g (lw_at lw_m13 15 rfl) rfl
theorem q3018 : (Jvm.Cond.soleField "PointerAnalyzerModel" "objectCount") ∈ lw_all := lw_g (lw_at lw_m13 16 rfl) rfl
theorem q3019 : (Jvm.Cond.lays "PointerAnalyzerModel" "PointerAnalyzerModel" "faultCount" "I") ∈ lw_all := lw_g (lw_at lw_m13 17 rfl) rfl
theorem q3020 : (Jvm.Cond.soleField "PointerAnalyzerModel" "faultCount") ∈ lw_all := lw_g (lw_at lw_m13 18 rfl) rfl
theorem q3021 : (Jvm.Cond.lays "PointerAnalyzerModel" "PointerAnalyzerModel" "executed" "I") ∈ lw_all := lw_g (lw_at lw_m13 19 rfl) rfl
theorem q3022 : (Jvm.Cond.soleField "PointerAnalyzerModel" "executed") ∈ lw_all := lw_g (lw_at lw_m13 20 rfl) rfl
theorem q3023 : (Jvm.Cond.laysFinal "PointerAnalyzerModel" "PointerAnalyzerModel" "saved" "[I") ∈ lw_all := lw_g (lw_at lw_m13 21 rfl) rfl
theorem q3024 : (Jvm.Cond.soleField "PointerAnalyzerModel" "saved") ∈ lw_all := lw_g (lw_at lw_m13 22 rfl) rfl
theorem q3025 : (Jvm.Cond.lays "PointerAnalyzerModel" "PointerAnalyzerModel" "isSaved" "Z") ∈ lw_all := lw_g (lw_at lw_m13 23 rfl) rfl
theorem q3026 : (Jvm.Cond.soleField "PointerAnalyzerModel" "isSaved") ∈ lw_all := lw_g (lw_at lw_m13 24 rfl) rfl
theorem q3027 : (Jvm.Cond.lays "PointerAnalyzerModel" "PointerAnalyzerModel" "isSaving" "Z") ∈ lw_all := lw_g (lw_at lw_m13 25 rfl) rfl
theorem q3028 : (Jvm.Cond.soleField "PointerAnalyzerModel" "isSaving") ∈ lw_all := lw_g (lw_at lw_m13 26 rfl) rfl
theorem q3029 : (Jvm.Cond.lays "PointerAnalyzerModel" "PointerAnalyzerModel" "cursor" "I") ∈ lw_all := lw_g (lw_at lw_m13 27 rfl) rfl
theorem q3030 : (Jvm.Cond.soleField "PointerAnalyzerModel" "cursor") ∈ lw_all := lw_g (lw_at lw_m13 28 rfl) rfl
theorem q3031 : (Jvm.Cond.superclass "PointerAnalyzerModel" "java/lang/Object") ∈ lw_all := lw_g (lw_at lw_m13 29 rfl) rfl
theorem q3033 : (Jvm.Cond.instanceMethod ({ cls := "PointerAnalyzerModel", name := "thrown", desc := "()I" } : Jvm.MethodName)) ∈ lw_all := lw_g (lw_at lw_m13 31 rfl) rfl
theorem q3034 : (Jvm.Cond.selects "PointerAnalyzerModel" ({ cls := "PointerAnalyzerModel", name := "thrown", desc := "()I" } : Jvm.MethodName) ({ cls := "PointerAnalyzerModel", name := "thrown", desc := "()I" } : Jvm.MethodName)) ∈ lw_all := lw_g (lw_at lw_m13 32 rfl) rfl
theorem q3035 : (Jvm.Cond.code ({ cls := "PointerAnalyzerModel", name := "thrown", desc := "()I" } : Jvm.MethodName) prog_21_method_2_code (1 : Nat) (Option.some Jvm.ClassFile.FieldType.int)) ∈ lw_all := lw_g (lw_at lw_m13 33 rfl) rfl
theorem q3037 : (Jvm.Cond.instanceMethod ({ cls := "PointerAnalyzerModel", name := "appendCharacter", desc := "(I)I" } : Jvm.MethodName)) ∈ lw_all := lw_g (lw_at lw_m13 35 rfl) rfl
theorem q3038 : (Jvm.Cond.selects "PointerAnalyzerModel" ({ cls := "PointerAnalyzerModel", name := "appendCharacter", desc := "(I)I" } : Jvm.MethodName) ({ cls := "PointerAnalyzerModel", name := "appendCharacter", desc := "(I)I" } : Jvm.MethodName)) ∈ lw_all := lw_g (lw_at lw_m13 36 rfl) rfl
theorem q3039 : (Jvm.Cond.code ({ cls := "PointerAnalyzerModel", name := "appendCharacter", desc := "(I)I" } : Jvm.MethodName) prog_21_method_14_code (2 : Nat) (Option.some Jvm.ClassFile.FieldType.int)) ∈ lw_all := lw_g (lw_at lw_m13 37 rfl) rfl
theorem q3040 : (Jvm.Cond.methodLink "PointerAnalyzerModel" (94 : Nat) ({ cls := "PointerAnalyzerModel", name := "isBetween", desc := "(III)Z" } : Jvm.MethodName)) ∈ lw_all := lw_g (lw_at lw_m13 38 rfl) rfl
theorem q3041 : (Jvm.Cond.static ({ cls := "PointerAnalyzerModel", name := "isBetween", desc := "(III)Z" } : Jvm.MethodName)) ∈ lw_all := lw_g (lw_at lw_m13 39 rfl) rfl
theorem q3042 : (Jvm.Cond.code ({ cls := "PointerAnalyzerModel", name := "isBetween", desc := "(III)Z" } : Jvm.MethodName) prog_21_method_5_code (3 : Nat) (Option.some Jvm.ClassFile.FieldType.boolean)) ∈ lw_all := lw_g (lw_at lw_m13 40 rfl) rfl
theorem q3043 : (Jvm.Cond.methodLink "PointerAnalyzerModel" (98 : Nat) ({ cls := "PointerAnalyzerModel", name := "fails", desc := "(I)I" } : Jvm.MethodName)) ∈ lw_all := lw_g (lw_at lw_m13 41 rfl) rfl
theorem q3044 : (Jvm.Cond.privateMethod ({ cls := "PointerAnalyzerModel", name := "fails", desc := "(I)I" } : Jvm.MethodName)) ∈ lw_tbl := lw_at lw_m13 42 rfl
theorem q3045 : (Jvm.Cond.instanceMethod ({ cls := "PointerAnalyzerModel", name := "fails", desc := "(I)I" } : Jvm.MethodName)) ∈ lw_all := lw_g (lw_at lw_m13 43 rfl) rfl
theorem q3046 : (Jvm.Cond.code ({ cls := "PointerAnalyzerModel", name := "fails", desc := "(I)I" } : Jvm.MethodName) prog_21_method_3_code (2 : Nat) (Option.some Jvm.ClassFile.FieldType.int)) ∈ lw_all := lw_g (lw_at lw_m13 44 rfl) rfl
theorem q3048 : (Jvm.Cond.instanceMethod ({ cls := "PointerAnalyzerModel", name := "setBody", desc := "(I)I" } : Jvm.MethodName)) ∈ lw_all := lw_g (lw_at lw_m13 46 rfl) rfl
theorem q3049 : (Jvm.Cond.selects "PointerAnalyzerModel" ({ cls := "PointerAnalyzerModel", name := "setBody", desc := "(I)I" } : Jvm.MethodName) ({ cls := "PointerAnalyzerModel", name := "setBody", desc := "(I)I" } : Jvm.MethodName)) ∈ lw_all := lw_g (lw_at lw_m13 47 rfl) rfl
theorem q3050 : (Jvm.Cond.code ({ cls := "PointerAnalyzerModel", name := "setBody", desc := "(I)I" } : Jvm.MethodName) prog_21_method_25_code (3 : Nat) (Option.some Jvm.ClassFile.FieldType.int)) ∈ lw_all := lw_g (lw_at lw_m13 48 rfl) rfl
theorem q3051 : (Jvm.Cond.methodLink "PointerAnalyzerModel" (141 : Nat) ({ cls := "PointerAnalyzerModel", name := "isFunction", desc := "(I)Z" } : Jvm.MethodName)) ∈ lw_all := lw_g (lw_at lw_m13 49 rfl) rfl
theorem q3052 : (Jvm.Cond.static ({ cls := "PointerAnalyzerModel", name := "isFunction", desc := "(I)Z" } : Jvm.MethodName)) ∈ lw_all := lw_g (lw_at lw_m13 50 rfl) rfl
theorem q3053 : (Jvm.Cond.code ({ cls := "PointerAnalyzerModel", name := "isFunction", desc := "(I)Z" } : Jvm.MethodName) prog_21_method_7_code (1 : Nat) (Option.some Jvm.ClassFile.FieldType.boolean)) ∈ lw_all := lw_g (lw_at lw_m13 51 rfl) rfl
theorem q3054 : (Jvm.Cond.methodLink "PointerAnalyzerModel" (144 : Nat) ({ cls := "PointerAnalyzerModel", name := "takesText", desc := "(I)Z" } : Jvm.MethodName)) ∈ lw_all := lw_g (lw_at lw_m13 52 rfl) rfl
theorem q3055 : (Jvm.Cond.privateMethod ({ cls := "PointerAnalyzerModel", name := "takesText", desc := "(I)Z" } : Jvm.MethodName)) ∈ lw_tbl := lw_at lw_m13 53 rfl
theorem q3056 : (Jvm.Cond.instanceMethod ({ cls := "PointerAnalyzerModel", name := "takesText", desc := "(I)Z" } : Jvm.MethodName)) ∈ lw_all := lw_g (lw_at lw_m13 54 rfl) rfl
theorem q3057 : (Jvm.Cond.code ({ cls := "PointerAnalyzerModel", name := "takesText", desc := "(I)Z" } : Jvm.MethodName) prog_21_method_23_code (3 : Nat) (Option.some Jvm.ClassFile.FieldType.boolean)) ∈ lw_all := lw_g (lw_at lw_m13 55 rfl) rfl
theorem q3058 : (Jvm.Cond.methodLink "PointerAnalyzerModel" (138 : Nat) ({ cls := "PointerAnalyzerModel", name := "takesStatement", desc := "(I)Z" } : Jvm.MethodName)) ∈ lw_all := lw_g (lw_at lw_m13 56 rfl) rfl
theorem q3059 : (Jvm.Cond.privateMethod ({ cls := "PointerAnalyzerModel", name := "takesStatement", desc := "(I)Z" } : Jvm.MethodName)) ∈ lw_tbl := lw_at lw_m13 57 rfl
theorem q3060 : (Jvm.Cond.instanceMethod ({ cls := "PointerAnalyzerModel", name := "takesStatement", desc := "(I)Z" } : Jvm.MethodName)) ∈ lw_all := lw_g (lw_at lw_m13 58 rfl) rfl
theorem q3061 : (Jvm.Cond.code ({ cls := "PointerAnalyzerModel", name := "takesStatement", desc := "(I)Z" } : Jvm.MethodName) prog_21_method_22_code (6 : Nat) (Option.some Jvm.ClassFile.FieldType.boolean)) ∈ lw_all := lw_g (lw_at lw_m13 59 rfl) rfl
theorem q3062 : (Jvm.Cond.methodLink "PointerAnalyzerModel" (120 : Nat) ({ cls := "PointerAnalyzerModel", name := "skips", desc := "(I)Z" } : Jvm.MethodName)) ∈ lw_all := lw_g (lw_at lw_m13 60 rfl) rfl
theorem q3063 : (Jvm.Cond.privateMethod ({ cls := "PointerAnalyzerModel", name := "skips", desc := "(I)Z" } : Jvm.MethodName)) ∈ lw_tbl := lw_at lw_m13 61 rfl
theorem q3064 : (Jvm.Cond.instanceMethod ({ cls := "PointerAnalyzerModel", name := "skips", desc := "(I)Z" } : Jvm.MethodName)) ∈ lw_all := lw_g (lw_at lw_m13 62 rfl) rfl
theorem q3065 : (Jvm.Cond.code ({ cls := "PointerAnalyzerModel", name := "skips", desc := "(I)Z" } : Jvm.MethodName) prog_21_method_16_code (2 : Nat) (Option.some Jvm.ClassFile.FieldType.boolean)) ∈ lw_all := lw_g (lw_at lw_m13 63 rfl) rfl
theorem q3066 : (Jvm.Cond.methodLink "PointerAnalyzerModel" (107 : Nat) ({ cls := "PointerAnalyzerModel", name := "next", desc := "()I" } : Jvm.MethodName)) ∈ lw_all := lw_g (lw_at lw_m13 64 rfl) rfl
theorem q3067 : (Jvm.Cond.privateMethod ({ cls := "PointerAnalyzerModel", name := "next", desc := "()I" } : Jvm.MethodName)) ∈ lw_tbl := lw_at lw_m13 65 rfl
theorem q3068 : (Jvm.Cond.instanceMethod ({ cls := "PointerAnalyzerModel", name := "next", desc := "()I" } : Jvm.MethodName)) ∈ lw_all := lw_g (lw_at lw_m13 66 rfl) rfl
theorem q3069 : (Jvm.Cond.code ({ cls := "PointerAnalyzerModel", name := "next", desc := "()I" } : Jvm.MethodName) prog_21_method_15_code (1 : Nat) (Option.some Jvm.ClassFile.FieldType.int)) ∈ lw_all := lw_g (lw_at lw_m13 67 rfl) rfl
theorem q3070 : (Jvm.Cond.methodLink "PointerAnalyzerModel" (131 : Nat) ({ cls := "PointerAnalyzerModel", name := "takesStore", desc := "(I)Z" } : Jvm.MethodName)) ∈ lw_all := lw_g (lw_at lw_m13 68 rfl) rfl
theorem q3071 : (Jvm.Cond.privateMethod ({ cls := "PointerAnalyzerModel", name := "takesStore", desc := "(I)Z" } : Jvm.MethodName)) ∈ lw_tbl := lw_at lw_m13 69 rfl
theorem q3072 : (Jvm.Cond.instanceMethod ({ cls := "PointerAnalyzerModel", name := "takesStore", desc := "(I)Z" } : Jvm.MethodName)) ∈ lw_all := lw_g (lw_at lw_m13 70 rfl) rfl
theorem q3073 : (Jvm.Cond.code ({ cls := "PointerAnalyzerModel", name := "takesStore", desc := "(I)Z" } : Jvm.MethodName) prog_21_method_20_code (4 : Nat) (Option.some Jvm.ClassFile.FieldType.boolean)) ∈ lw_all := lw_g (lw_at lw_m13 71 rfl) rfl
theorem q3074 : (Jvm.Cond.methodLink "PointerAnalyzerModel" (117 : Nat) ({ cls := "PointerAnalyzerModel", name := "name", desc := "(I)I" } : Jvm.MethodName)) ∈ lw_all := lw_g (lw_at lw_m13 72 rfl) rfl
theorem q3075 : (Jvm.Cond.privateMethod ({ cls := "PointerAnalyzerModel", name := "name", desc := "(I)I" } : Jvm.MethodName)) ∈ lw_tbl := lw_at lw_m13 73 rfl
theorem q3076 : (Jvm.Cond.instanceMethod ({ cls := "PointerAnalyzerModel", name := "name", desc := "(I)I" } : Jvm.MethodName)) ∈ lw_all := lw_g (lw_at lw_m13 74 rfl) rfl
theorem q3077 : (Jvm.Cond.code ({ cls := "PointerAnalyzerModel", name := "name", desc := "(I)I" } : Jvm.MethodName) prog_21_method_17_code (4 : Nat) (Option.some Jvm.ClassFile.FieldType.int)) ∈ lw_all := lw_g (lw_at lw_m13 75 rfl) rfl
theorem q3078 : (Jvm.Cond.methodLink "PointerAnalyzerModel" (124 : Nat) ({ cls := "PointerAnalyzerModel", name := "puts", desc := "(IIII)V" } : Jvm.MethodName)) ∈ lw_all := lw_g (lw_at lw_m13 76 rfl) rfl
theorem q3079 : (Jvm.Cond.privateMethod ({ cls := "PointerAnalyzerModel", name := "puts", desc := "(IIII)V" } : Jvm.MethodName)) ∈ lw_tbl := lw_at lw_m13 77 rfl
theorem q3080 : (Jvm.Cond.instanceMethod ({ cls := "PointerAnalyzerModel", name := "puts", desc := "(IIII)V" } : Jvm.MethodName)) ∈ lw_all := lw_g (lw_at lw_m13 78 rfl) rfl
theorem q3081 : (Jvm.Cond.code ({ cls := "PointerAnalyzerModel", name := "puts", desc := "(IIII)V" } : Jvm.MethodName) prog_21_method_19_code (6 : Nat) (Option.none : Option Jvm.ClassFile.FieldType)) ∈ lw_all := lw_g (lw_at lw_m13 79 rfl) rfl
theorem q3082 : (Jvm.Cond.methodLink "PointerAnalyzerModel" (134 : Nat) ({ cls := "PointerAnalyzerModel", name := "takesCall", desc := "(II)Z" } : Jvm.MethodName)) ∈ lw_all := lw_g (lw_at lw_m13 80 rfl) rfl
theorem q3083 : (Jvm.Cond.privateMethod ({ cls := "PointerAnalyzerModel", name := "takesCall", desc := "(II)Z" } : Jvm.MethodName)) ∈ lw_tbl := lw_at lw_m13 81 rfl
theorem q3084 : (Jvm.Cond.instanceMethod ({ cls := "PointerAnalyzerModel", name := "takesCall", desc := "(II)Z" } : Jvm.MethodName)) ∈ lw_all := lw_g (lw_at lw_m13 82 rfl) rfl
theorem q3085 : (Jvm.Cond.code ({ cls := "PointerAnalyzerModel", name := "takesCall", desc := "(II)Z" } : Jvm.MethodName) prog_21_method_21_code (5 : Nat) (Option.some Jvm.ClassFile.FieldType.boolean)) ∈ lw_all := lw_g (lw_at lw_m13 83 rfl) rfl
theorem q3086 : (Jvm.Cond.methodLink "PointerAnalyzerModel" (128 : Nat) ({ cls := "PointerAnalyzerModel", name := "digit", desc := "(I)I" } : Jvm.MethodName)) ∈ lw_all := lw_g (lw_at lw_m13 84 rfl) rfl
theorem q3087 : (Jvm.Cond.privateMethod ({ cls := "PointerAnalyzerModel", name := "digit", desc := "(I)I" } : Jvm.MethodName)) ∈ lw_tbl := lw_at lw_m13 85 rfl
theorem q3088 : (Jvm.Cond.instanceMethod ({ cls := "PointerAnalyzerModel", name := "digit", desc := "(I)I" } : Jvm.MethodName)) ∈ lw_all := lw_g (lw_at lw_m13 86 rfl) rfl
theorem q3089 : (Jvm.Cond.code ({ cls := "PointerAnalyzerModel", name := "digit", desc := "(I)I" } : Jvm.MethodName) prog_21_method_18_code (2 : Nat) (Option.some Jvm.ClassFile.FieldType.int)) ∈ lw_all := lw_g (lw_at lw_m13 87 rfl) rfl
theorem q3090 : (Jvm.Cond.methodLink "PointerAnalyzerModel" (147 : Nat) ({ cls := "PointerAnalyzerModel", name := "many", desc := "(II)I" } : Jvm.MethodName)) ∈ lw_all := lw_g (lw_at lw_m13 88 rfl) rfl
theorem q3091 : (Jvm.Cond.privateMethod ({ cls := "PointerAnalyzerModel", name := "many", desc := "(II)I" } : Jvm.MethodName)) ∈ lw_tbl := lw_at lw_m13 89 rfl
theorem q3092 : (Jvm.Cond.instanceMethod ({ cls := "PointerAnalyzerModel", name := "many", desc := "(II)I" } : Jvm.MethodName)) ∈ lw_all := lw_g (lw_at lw_m13 90 rfl) rfl
theorem q3093 : (Jvm.Cond.code ({ cls := "PointerAnalyzerModel", name := "many", desc := "(II)I" } : Jvm.MethodName) prog_21_method_12_code (6 : Nat) (Option.some Jvm.ClassFile.FieldType.int)) ∈ lw_all := lw_g (lw_at lw_m13 91 rfl) rfl
theorem q3094 : (Jvm.Cond.methodLink "PointerAnalyzerModel" (151 : Nat) ({ cls := "PointerAnalyzerModel", name := "copies", desc := "(II)V" } : Jvm.MethodName)) ∈ lw_all := lw_g (lw_at lw_m13 92 rfl) rfl
theorem q3095 : (Jvm.Cond.privateMethod ({ cls := "PointerAnalyzerModel", name := "copies", desc := "(II)V" } : Jvm.MethodName)) ∈ lw_tbl := lw_at lw_m13 93 rfl
theorem q3096 : (Jvm.Cond.instanceMethod ({ cls := "PointerAnalyzerModel", name := "copies", desc := "(II)V" } : Jvm.MethodName)) ∈ lw_all := lw_g (lw_at lw_m13 94 rfl) rfl
theorem q3097 : (Jvm.Cond.code ({ cls := "PointerAnalyzerModel", name := "copies", desc := "(II)V" } : Jvm.MethodName) prog_21_method_24_code (4 : Nat) (Option.none : Option Jvm.ClassFile.FieldType)) ∈ lw_all := lw_g (lw_at lw_m13 95 rfl) rfl
theorem q3098 : (Jvm.Cond.methodLink "PointerAnalyzerModel" (159 : Nat) ({ cls := "PointerAnalyzerModel", name := "forgets", desc := "()V" } : Jvm.MethodName)) ∈ lw_all := lw_g (lw_at lw_m13 96 rfl) rfl
theorem q3099 : (Jvm.Cond.privateMethod ({ cls := "PointerAnalyzerModel", name := "forgets", desc := "()V" } : Jvm.MethodName)) ∈ lw_tbl := lw_at lw_m13 97 rfl
theorem q3100 : (Jvm.Cond.instanceMethod ({ cls := "PointerAnalyzerModel", name := "forgets", desc := "()V" } : Jvm.MethodName)) ∈ lw_all := lw_g (lw_at lw_m13 98 rfl) rfl
theorem q3101 : (Jvm.Cond.code ({ cls := "PointerAnalyzerModel", name := "forgets", desc := "()V" } : Jvm.MethodName) prog_21_method_87_code (2 : Nat) (Option.none : Option Jvm.ClassFile.FieldType)) ∈ lw_all := lw_g (lw_at lw_m13 99 rfl) rfl
theorem q3103 : (Jvm.Cond.instanceMethod ({ cls := "PointerAnalyzerModel", name := "faultPosition", desc := "()I" } : Jvm.MethodName)) ∈ lw_all := lw_g (lw_at lw_m13 101 rfl) rfl
theorem q3104 : (Jvm.Cond.selects "PointerAnalyzerModel" ({ cls := "PointerAnalyzerModel", name := "faultPosition", desc := "()I" } : Jvm.MethodName) ({ cls := "PointerAnalyzerModel", name := "faultPosition", desc := "()I" } : Jvm.MethodName)) ∈ lw_all := lw_g (lw_at lw_m13 102 rfl) rfl
theorem q3105 : (Jvm.Cond.code ({ cls := "PointerAnalyzerModel", name := "faultPosition", desc := "()I" } : Jvm.MethodName) prog_21_method_26_code (1 : Nat) (Option.some Jvm.ClassFile.FieldType.int)) ∈ lw_all := lw_g (lw_at lw_m13 103 rfl) rfl
theorem q3107 : (Jvm.Cond.instanceMethod ({ cls := "PointerAnalyzerModel", name := "statementCount", desc := "()I" } : Jvm.MethodName)) ∈ lw_all := lw_g (lw_at lw_m13 105 rfl) rfl
theorem q3108 : (Jvm.Cond.selects "PointerAnalyzerModel" ({ cls := "PointerAnalyzerModel", name := "statementCount", desc := "()I" } : Jvm.MethodName) ({ cls := "PointerAnalyzerModel", name := "statementCount", desc := "()I" } : Jvm.MethodName)) ∈ lw_all := lw_g (lw_at lw_m13 106 rfl) rfl
theorem q3109 : (Jvm.Cond.code ({ cls := "PointerAnalyzerModel", name := "statementCount", desc := "()I" } : Jvm.MethodName) prog_21_method_27_code (1 : Nat) (Option.some Jvm.ClassFile.FieldType.int)) ∈ lw_all := lw_g (lw_at lw_m13 107 rfl) rfl
theorem q3110 : (Jvm.Cond.methodLink "PointerAnalyzerModel" (162 : Nat) ({ cls := "PointerAnalyzerModel", name := "statements", desc := "()I" } : Jvm.MethodName)) ∈ lw_all := lw_g (lw_at lw_m13 108 rfl) rfl
theorem q3111 : (Jvm.Cond.privateMethod ({ cls := "PointerAnalyzerModel", name := "statements", desc := "()I" } : Jvm.MethodName)) ∈ lw_tbl := lw_at lw_m13 109 rfl
theorem q3112 : (Jvm.Cond.instanceMethod ({ cls := "PointerAnalyzerModel", name := "statements", desc := "()I" } : Jvm.MethodName)) ∈ lw_all := lw_g (lw_at lw_m13 110 rfl) rfl
theorem q3113 : (Jvm.Cond.code ({ cls := "PointerAnalyzerModel", name := "statements", desc := "()I" } : Jvm.MethodName) prog_21_method_9_code (1 : Nat) (Option.some Jvm.ClassFile.FieldType.int)) ∈ lw_all := lw_g (lw_at lw_m13 111 rfl) rfl
theorem q3115 : (Jvm.Cond.instanceMethod ({ cls := "PointerAnalyzerModel", name := "kind", desc := "(I)I" } : Jvm.MethodName)) ∈ lw_all := lw_g (lw_at lw_m13 113 rfl) rfl
theorem q3116 : (Jvm.Cond.selects "PointerAnalyzerModel" ({ cls := "PointerAnalyzerModel", name := "kind", desc := "(I)I" } : Jvm.MethodName) ({ cls := "PointerAnalyzerModel", name := "kind", desc := "(I)I" } : Jvm.MethodName)) ∈ lw_all := lw_g (lw_at lw_m13 114 rfl) rfl
theorem q3117 : (Jvm.Cond.code ({ cls := "PointerAnalyzerModel", name := "kind", desc := "(I)I" } : Jvm.MethodName) prog_21_method_29_code (2 : Nat) (Option.some Jvm.ClassFile.FieldType.int)) ∈ lw_all := lw_g (lw_at lw_m13 115 rfl) rfl
theorem q3118 : (Jvm.Cond.methodLink "PointerAnalyzerModel" (165 : Nat) ({ cls := "PointerAnalyzerModel", name := "isStatement", desc := "(I)Z" } : Jvm.MethodName)) ∈ lw_all := lw_g (lw_at lw_m13 116 rfl) rfl
theorem q3119 : (Jvm.Cond.privateMethod ({ cls := "PointerAnalyzerModel", name := "isStatement", desc := "(I)Z" } : Jvm.MethodName)) ∈ lw_tbl := lw_at lw_m13 117 rfl
theorem q3120 : (Jvm.Cond.instanceMethod ({ cls := "PointerAnalyzerModel", name := "isStatement", desc := "(I)Z" } : Jvm.MethodName)) ∈ lw_all := lw_g (lw_at lw_m13 118 rfl) rfl
theorem q3121 : (Jvm.Cond.code ({ cls := "PointerAnalyzerModel", name := "isStatement", desc := "(I)Z" } : Jvm.MethodName) prog_21_method_28_code (2 : Nat) (Option.some Jvm.ClassFile.FieldType.boolean)) ∈ lw_all := lw_g (lw_at lw_m13 119 rfl) rfl
theorem q3122 : (Jvm.Cond.methodLink "PointerAnalyzerModel" (91 : Nat) ({ cls := "PointerAnalyzerModel", name := "placeOf", desc := "(I)I" } : Jvm.MethodName)) ∈ lw_all := lw_g (lw_at lw_m13 120 rfl) rfl
theorem q3123 : (Jvm.Cond.privateMethod ({ cls := "PointerAnalyzerModel", name := "placeOf", desc := "(I)I" } : Jvm.MethodName)) ∈ lw_tbl := lw_at lw_m13 121 rfl
theorem q3124 : (Jvm.Cond.instanceMethod ({ cls := "PointerAnalyzerModel", name := "placeOf", desc := "(I)I" } : Jvm.MethodName)) ∈ lw_all := lw_g (lw_at lw_m13 122 rfl) rfl
theorem q3125 : (Jvm.Cond.code ({ cls := "PointerAnalyzerModel", name := "placeOf", desc := "(I)I" } : Jvm.MethodName) prog_21_method_10_code (4 : Nat) (Option.some Jvm.ClassFile.FieldType.int)) ∈ lw_all := lw_g (lw_at lw_m13 123 rfl) rfl
theorem q3127 : (Jvm.Cond.instanceMethod ({ cls := "PointerAnalyzerModel", name := "functionOf", desc := "(I)I" } : Jvm.MethodName)) ∈ lw_all := lw_g (lw_at lw_m13 125 rfl) rfl
theorem q3128 : (Jvm.Cond.selects "PointerAnalyzerModel" ({ cls := "PointerAnalyzerModel", name := "functionOf", desc := "(I)I" } : Jvm.MethodName) ({ cls := "PointerAnalyzerModel", name := "functionOf", desc := "(I)I" } : Jvm.MethodName)) ∈ lw_all := lw_g (lw_at lw_m13 126 rfl) rfl
theorem q3129 : (Jvm.Cond.code ({ cls := "PointerAnalyzerModel", name := "functionOf", desc := "(I)I" } : Jvm.MethodName) prog_21_method_30_code (2 : Nat) (Option.some Jvm.ClassFile.FieldType.int)) ∈ lw_all := lw_g (lw_at lw_m13 127 rfl) rfl
theorem q3131 : (Jvm.Cond.instanceMethod ({ cls := "PointerAnalyzerModel", name := "siteCount", desc := "()I" } : Jvm.MethodName)) ∈ lw_all := lw_g (lw_at lw_m13 129 rfl) rfl
theorem q3132 : (Jvm.Cond.selects "PointerAnalyzerModel" ({ cls := "PointerAnalyzerModel", name := "siteCount", desc := "()I" } : Jvm.MethodName) ({ cls := "PointerAnalyzerModel", name := "siteCount", desc := "()I" } : Jvm.MethodName)) ∈ lw_all := lw_g (lw_at lw_m13 130 rfl) rfl
theorem q3133 : (Jvm.Cond.code ({ cls := "PointerAnalyzerModel", name := "siteCount", desc := "()I" } : Jvm.MethodName) prog_21_method_32_code (1 : Nat) (Option.some Jvm.ClassFile.FieldType.int)) ∈ lw_all := lw_g (lw_at lw_m13 131 rfl) rfl
theorem q3134 : (Jvm.Cond.methodLink "PointerAnalyzerModel" (168 : Nat) ({ cls := "PointerAnalyzerModel", name := "sites", desc := "()I" } : Jvm.MethodName)) ∈ lw_all := lw_g (lw_at lw_m13 132 rfl) rfl
theorem q3135 : (Jvm.Cond.privateMethod ({ cls := "PointerAnalyzerModel", name := "sites", desc := "()I" } : Jvm.MethodName)) ∈ lw_tbl := lw_at lw_m13 133 rfl
theorem q3136 : (Jvm.Cond.instanceMethod ({ cls := "PointerAnalyzerModel", name := "sites", desc := "()I" } : Jvm.MethodName)) ∈ lw_all := lw_g (lw_at lw_m13 134 rfl) rfl
theorem q3137 : (Jvm.Cond.code ({ cls := "PointerAnalyzerModel", name := "sites", desc := "()I" } : Jvm.MethodName) prog_21_method_31_code (1 : Nat) (Option.some Jvm.ClassFile.FieldType.int)) ∈ lw_all := lw_g (lw_at lw_m13 135 rfl) rfl
theorem q3139 : (Jvm.Cond.instanceMethod ({ cls := "PointerAnalyzerModel", name := "setLimit", desc := "(I)I" } : Jvm.MethodName)) ∈ lw_all := lw_g (lw_at lw_m13 137 rfl) rfl
theorem q3140 : (Jvm.Cond.selects "PointerAnalyzerModel" ({ cls := "PointerAnalyzerModel", name := "setLimit", desc := "(I)I" } : Jvm.MethodName) ({ cls := "PointerAnalyzerModel", name := "setLimit", desc := "(I)I" } : Jvm.MethodName)) ∈ lw_all := lw_g (lw_at lw_m13 138 rfl) rfl
theorem q3141 : (Jvm.Cond.code ({ cls := "PointerAnalyzerModel", name := "setLimit", desc := "(I)I" } : Jvm.MethodName) prog_21_method_33_code (3 : Nat) (Option.some Jvm.ClassFile.FieldType.int)) ∈ lw_all := lw_g (lw_at lw_m13 139 rfl) rfl
theorem q3143 : (Jvm.Cond.instanceMethod ({ cls := "PointerAnalyzerModel", name := "contextCount", desc := "(I)I" } : Jvm.MethodName)) ∈ lw_all := lw_g (lw_at lw_m13 141 rfl) rfl
theorem q3144 : (Jvm.Cond.selects "PointerAnalyzerModel" ({ cls := "PointerAnalyzerModel", name := "contextCount", desc := "(I)I" } : Jvm.MethodName) ({ cls := "PointerAnalyzerModel", name := "contextCount", desc := "(I)I" } : Jvm.MethodName)) ∈ lw_all := lw_g (lw_at lw_m13 142 rfl) rfl
theorem q3145 : (Jvm.Cond.code ({ cls := "PointerAnalyzerModel", name := "contextCount", desc := "(I)I" } : Jvm.MethodName) prog_21_method_50_code (2 : Nat) (Option.some Jvm.ClassFile.FieldType.int)) ∈ lw_all := lw_g (lw_at lw_m13 143 rfl) rfl
theorem q3146 : (Jvm.Cond.methodLink "PointerAnalyzerModel" (235 : Nat) ({ cls := "PointerAnalyzerModel", name := "refreshes", desc := "()V" } : Jvm.MethodName)) ∈ lw_all := lw_g (lw_at lw_m13 144 rfl) rfl
theorem q3147 : (Jvm.Cond.privateMethod ({ cls := "PointerAnalyzerModel", name := "refreshes", desc := "()V" } : Jvm.MethodName)) ∈ lw_tbl := lw_at lw_m13 145 rfl
theorem q3148 : (Jvm.Cond.instanceMethod ({ cls := "PointerAnalyzerModel", name := "refreshes", desc := "()V" } : Jvm.MethodName)) ∈ lw_all := lw_g (lw_at lw_m13 146 rfl) rfl
theorem q3149 : (Jvm.Cond.code ({ cls := "PointerAnalyzerModel", name := "refreshes", desc := "()V" } : Jvm.MethodName) prog_21_method_47_code (4 : Nat) (Option.none : Option Jvm.ClassFile.FieldType)) ∈ lw_all := lw_g (lw_at lw_m13 147 rfl) rfl
theorem q3150 : (Jvm.Cond.methodLink "PointerAnalyzerModel" (229 : Nat) ({ cls := "PointerAnalyzerModel", name := "findRanks", desc := "()V" } : Jvm.MethodName)) ∈ lw_all := lw_g (lw_at lw_m13 148 rfl) rfl
theorem q3151 : (Jvm.Cond.privateMethod ({ cls := "PointerAnalyzerModel", name := "findRanks", desc := "()V" } : Jvm.MethodName)) ∈ lw_tbl := lw_at lw_m13 149 rfl
theorem q3152 : (Jvm.Cond.instanceMethod ({ cls := "PointerAnalyzerModel", name := "findRanks", desc := "()V" } : Jvm.MethodName)) ∈ lw_all := lw_g (lw_at lw_m13 150 rfl) rfl
theorem q3153 : (Jvm.Cond.code ({ cls := "PointerAnalyzerModel", name := "findRanks", desc := "()V" } : Jvm.MethodName) prog_21_method_46_code (5 : Nat) (Option.none : Option Jvm.ClassFile.FieldType)) ∈ lw_all := lw_g (lw_at lw_m13 151 rfl) rfl
theorem q3154 : (Jvm.Cond.methodLink "PointerAnalyzerModel" (212 : Nat) ({ cls := "PointerAnalyzerModel", name := "findContexts", desc := "(I)V" } : Jvm.MethodName)) ∈ lw_all := lw_g (lw_at lw_m13 152 rfl) rfl
theorem q3155 : (Jvm.Cond.privateMethod ({ cls := "PointerAnalyzerModel", name := "findContexts", desc := "(I)V" } : Jvm.MethodName)) ∈ lw_tbl := lw_at lw_m13 153 rfl
theorem q3156 : (Jvm.Cond.instanceMethod ({ cls := "PointerAnalyzerModel", name := "findContexts", desc := "(I)V" } : Jvm.MethodName)) ∈ lw_all := lw_g (lw_at lw_m13 154 rfl) rfl
theorem q3157 : (Jvm.Cond.code ({ cls := "PointerAnalyzerModel", name := "findContexts", desc := "(I)V" } : Jvm.MethodName) prog_21_method_37_code (9 : Nat) (Option.none : Option Jvm.ClassFile.FieldType)) ∈ lw_all := lw_g (lw_at lw_m13 155 rfl) rfl
theorem q3158 : (Jvm.Cond.methodLink "PointerAnalyzerModel" (177 : Nat) ({ cls := "PointerAnalyzerModel", name := "addsContext", desc := "(II)V" } : Jvm.MethodName)) ∈ lw_all := lw_g (lw_at lw_m13 156 rfl) rfl
theorem q3159 : (Jvm.Cond.privateMethod ({ cls := "PointerAnalyzerModel", name := "addsContext", desc := "(II)V" } : Jvm.MethodName)) ∈ lw_tbl := lw_at lw_m13 157 rfl
theorem q3160 : (Jvm.Cond.instanceMethod ({ cls := "PointerAnalyzerModel", name := "addsContext", desc := "(II)V" } : Jvm.MethodName)) ∈ lw_all := lw_g (lw_at lw_m13 158 rfl) rfl
theorem q3161 : (Jvm.Cond.code ({ cls := "PointerAnalyzerModel", name := "addsContext", desc := "(II)V" } : Jvm.MethodName) prog_21_method_36_code (4 : Nat) (Option.none : Option Jvm.ClassFile.FieldType)) ∈ lw_all := lw_g (lw_at lw_m13 159 rfl) rfl
theorem q3162 : (Jvm.Cond.methodLink "PointerAnalyzerModel" (87 : Nat) ({ cls := "PointerAnalyzerModel", name := "numberOf", desc := "(I)I" } : Jvm.MethodName)) ∈ lw_all := lw_g (lw_at lw_m13 160 rfl) rfl
theorem q3163 : (Jvm.Cond.privateMethod ({ cls := "PointerAnalyzerModel", name := "numberOf", desc := "(I)I" } : Jvm.MethodName)) ∈ lw_tbl := lw_at lw_m13 161 rfl
theorem q3164 : (Jvm.Cond.instanceMethod ({ cls := "PointerAnalyzerModel", name := "numberOf", desc := "(I)I" } : Jvm.MethodName)) ∈ lw_all := lw_g (lw_at lw_m13 162 rfl) rfl
theorem q3165 : (Jvm.Cond.code ({ cls := "PointerAnalyzerModel", name := "numberOf", desc := "(I)I" } : Jvm.MethodName) prog_21_method_11_code (4 : Nat) (Option.some Jvm.ClassFile.FieldType.int)) ∈ lw_all := lw_g (lw_at lw_m13 163 rfl) rfl
theorem q3166 : (Jvm.Cond.methodLink "PointerAnalyzerModel" (180 : Nat) ({ cls := "PointerAnalyzerModel", name := "codeBehind", desc := "(III)I" } : Jvm.MethodName)) ∈ lw_all := lw_g (lw_at lw_m13 164 rfl) rfl
theorem q3167 : (Jvm.Cond.static ({ cls := "PointerAnalyzerModel", name := "codeBehind", desc := "(III)I" } : Jvm.MethodName)) ∈ lw_all := lw_g (lw_at lw_m13 165 rfl) rfl
theorem q3168 : (Jvm.Cond.code ({ cls := "PointerAnalyzerModel", name := "codeBehind", desc := "(III)I" } : Jvm.MethodName) prog_21_method_35_code (3 : Nat) (Option.some Jvm.ClassFile.FieldType.int)) ∈ lw_all := lw_g (lw_at lw_m13 166 rfl) rfl
theorem q3169 : (Jvm.Cond.methodLink "PointerAnalyzerModel" (184 : Nat) ({ cls := "PointerAnalyzerModel", name := "contextOf", desc := "(II)I" } : Jvm.MethodName)) ∈ lw_all := lw_g (lw_at lw_m13 167 rfl) rfl
theorem q3170 : (Jvm.Cond.privateMethod ({ cls := "PointerAnalyzerModel", name := "contextOf", desc := "(II)I" } : Jvm.MethodName)) ∈ lw_tbl := lw_at lw_m13 168 rfl
theorem q3171 : (Jvm.Cond.instanceMethod ({ cls := "PointerAnalyzerModel", name := "contextOf", desc := "(II)I" } : Jvm.MethodName)) ∈ lw_all := lw_g (lw_at lw_m13 169 rfl) rfl
theorem q3172 : (Jvm.Cond.code ({ cls := "PointerAnalyzerModel", name := "contextOf", desc := "(II)I" } : Jvm.MethodName) prog_21_method_34_code (4 : Nat) (Option.some Jvm.ClassFile.FieldType.int)) ∈ lw_all := lw_g (lw_at lw_m13 170 rfl) rfl
theorem q3173 : (Jvm.Cond.methodLink "PointerAnalyzerModel" (216 : Nat) ({ cls := "PointerAnalyzerModel", name := "clears", desc := "()V" } : Jvm.MethodName)) ∈ lw_all := lw_g (lw_at lw_m13 171 rfl) rfl
theorem q3174 : (Jvm.Cond.privateMethod ({ cls := "PointerAnalyzerModel", name := "clears", desc := "()V" } : Jvm.MethodName)) ∈ lw_tbl := lw_at lw_m13 172 rfl
theorem q3175 : (Jvm.Cond.instanceMethod ({ cls := "PointerAnalyzerModel", name := "clears", desc := "()V" } : Jvm.MethodName)) ∈ lw_all := lw_g (lw_at lw_m13 173 rfl) rfl
theorem q3176 : (Jvm.Cond.code ({ cls := "PointerAnalyzerModel", name := "clears", desc := "()V" } : Jvm.MethodName) prog_21_method_44_code (2 : Nat) (Option.none : Option Jvm.ClassFile.FieldType)) ∈ lw_all := lw_g (lw_at lw_m13 174 rfl) rfl
theorem q3177 : (Jvm.Cond.methodLink "PointerAnalyzerModel" (222 : Nat) ({ cls := "PointerAnalyzerModel", name := "follows", desc := "([JIII)V" } : Jvm.MethodName)) ∈ lw_all := lw_g (lw_at lw_m13 175 rfl) rfl
theorem q3178 : (Jvm.Cond.privateMethod ({ cls := "PointerAnalyzerModel", name := "follows", desc := "([JIII)V" } : Jvm.MethodName)) ∈ lw_tbl := lw_at lw_m13 176 rfl
theorem q3179 : (Jvm.Cond.instanceMethod ({ cls := "PointerAnalyzerModel", name := "follows", desc := "([JIII)V" } : Jvm.MethodName)) ∈ lw_all := lw_g (lw_at lw_m13 177 rfl) rfl
theorem q3180 : (Jvm.Cond.code ({ cls := "PointerAnalyzerModel", name := "follows", desc := "([JIII)V" } : Jvm.MethodName) prog_21_method_43_code (9 : Nat) (Option.none : Option Jvm.ClassFile.FieldType)) ∈ lw_all := lw_g (lw_at lw_m13 178 rfl) rfl
theorem q3181 : (Jvm.Cond.methodLink "PointerAnalyzerModel" (196 : Nat) ({ cls := "PointerAnalyzerModel", name := "cellOf", desc := "(II)I" } : Jvm.MethodName)) ∈ lw_all := lw_g (lw_at lw_m13 179 rfl) rfl
theorem q3182 : (Jvm.Cond.static ({ cls := "PointerAnalyzerModel", name := "cellOf", desc := "(II)I" } : Jvm.MethodName)) ∈ lw_all := lw_g (lw_at lw_m13 180 rfl) rfl
theorem q3183 : (Jvm.Cond.code ({ cls := "PointerAnalyzerModel", name := "cellOf", desc := "(II)I" } : Jvm.MethodName) prog_21_method_39_code (2 : Nat) (Option.some Jvm.ClassFile.FieldType.int)) ∈ lw_all := lw_g (lw_at lw_m13 181 rfl) rfl
theorem q3184 : (Jvm.Cond.methodLink "PointerAnalyzerModel" (199 : Nat) ({ cls := "PointerAnalyzerModel", name := "adds", desc := "(II)V" } : Jvm.MethodName)) ∈ lw_all := lw_g (lw_at lw_m13 182 rfl) rfl
theorem q3185 : (Jvm.Cond.privateMethod ({ cls := "PointerAnalyzerModel", name := "adds", desc := "(II)V" } : Jvm.MethodName)) ∈ lw_tbl := lw_at lw_m13 183 rfl
theorem q3186 : (Jvm.Cond.instanceMethod ({ cls := "PointerAnalyzerModel", name := "adds", desc := "(II)V" } : Jvm.MethodName)) ∈ lw_all := lw_g (lw_at lw_m13 184 rfl) rfl
theorem q3187 : (Jvm.Cond.code ({ cls := "PointerAnalyzerModel", name := "adds", desc := "(II)V" } : Jvm.MethodName) prog_21_method_41_code (3 : Nat) (Option.none : Option Jvm.ClassFile.FieldType)) ∈ lw_all := lw_g (lw_at lw_m13 185 rfl) rfl
theorem q3188 : (Jvm.Cond.methodLink "PointerAnalyzerModel" (187 : Nat) ({ cls := "PointerAnalyzerModel", name := "isIn", desc := "([JII)Z" } : Jvm.MethodName)) ∈ lw_all := lw_g (lw_at lw_m13 186 rfl) rfl
theorem q3189 : (Jvm.Cond.static ({ cls := "PointerAnalyzerModel", name := "isIn", desc := "([JII)Z" } : Jvm.MethodName)) ∈ lw_all := lw_g (lw_at lw_m13 187 rfl) rfl
theorem q3190 : (Jvm.Cond.code ({ cls := "PointerAnalyzerModel", name := "isIn", desc := "([JII)Z" } : Jvm.MethodName) prog_21_method_38_code (3 : Nat) (Option.some Jvm.ClassFile.FieldType.boolean)) ∈ lw_all := lw_g (lw_at lw_m13 188 rfl) rfl
theorem q3191 : (Jvm.Cond.methodLink "PointerAnalyzerModel" (202 : Nat) ({ cls := "PointerAnalyzerModel", name := "addsAll", desc := "([JII)V" } : Jvm.MethodName)) ∈ lw_all := lw_g (lw_at lw_m13 189 rfl) rfl
theorem q3192 : (Jvm.Cond.privateMethod ({ cls := "PointerAnalyzerModel", name := "addsAll", desc := "([JII)V" } : Jvm.MethodName)) ∈ lw_tbl := lw_at lw_m13 190 rfl
theorem q3193 : (Jvm.Cond.instanceMethod ({ cls := "PointerAnalyzerModel", name := "addsAll", desc := "([JII)V" } : Jvm.MethodName)) ∈ lw_all := lw_g (lw_at lw_m13 191 rfl) rfl
theorem q3194 : (Jvm.Cond.code ({ cls := "PointerAnalyzerModel", name := "addsAll", desc := "([JII)V" } : Jvm.MethodName) prog_21_method_42_code (7 : Nat) (Option.none : Option Jvm.ClassFile.FieldType)) ∈ lw_all := lw_g (lw_at lw_m13 192 rfl) rfl
theorem q3195 : (Jvm.Cond.constantLong "PointerAnalyzerModel" (194 : Nat) (-1 : Int64)) ∈ lw_all := lw_g (lw_at lw_m13 193 rfl) rfl
theorem q3196 : (Jvm.Cond.methodLink "PointerAnalyzerModel" (206 : Nat) ({ cls := "PointerAnalyzerModel", name := "siteOf", desc := "(I)I" } : Jvm.MethodName)) ∈ lw_all := lw_g (lw_at lw_m13 194 rfl) rfl
theorem q3197 : (Jvm.Cond.privateMethod ({ cls := "PointerAnalyzerModel", name := "siteOf", desc := "(I)I" } : Jvm.MethodName)) ∈ lw_tbl := lw_at lw_m13 195 rfl
theorem q3198 : (Jvm.Cond.instanceMethod ({ cls := "PointerAnalyzerModel", name := "siteOf", desc := "(I)I" } : Jvm.MethodName)) ∈ lw_all := lw_g (lw_at lw_m13 196 rfl) rfl
theorem q3199 : (Jvm.Cond.code ({ cls := "PointerAnalyzerModel", name := "siteOf", desc := "(I)I" } : Jvm.MethodName) prog_21_method_13_code (4 : Nat) (Option.some Jvm.ClassFile.FieldType.int)) ∈ lw_all := lw_g (lw_at lw_m13 197 rfl) rfl
theorem q3200 : (Jvm.Cond.methodLink "PointerAnalyzerModel" (226 : Nat) ({ cls := "PointerAnalyzerModel", name := "notes", desc := "(II)V" } : Jvm.MethodName)) ∈ lw_all := lw_g (lw_at lw_m13 198 rfl) rfl
theorem q3201 : (Jvm.Cond.privateMethod ({ cls := "PointerAnalyzerModel", name := "notes", desc := "(II)V" } : Jvm.MethodName)) ∈ lw_tbl := lw_at lw_m13 199 rfl
theorem q3202 : (Jvm.Cond.instanceMethod ({ cls := "PointerAnalyzerModel", name := "notes", desc := "(II)V" } : Jvm.MethodName)) ∈ lw_all := lw_g (lw_at lw_m13 200 rfl) rfl
theorem q3203 : (Jvm.Cond.code ({ cls := "PointerAnalyzerModel", name := "notes", desc := "(II)V" } : Jvm.MethodName) prog_21_method_45_code (6 : Nat) (Option.none : Option Jvm.ClassFile.FieldType)) ∈ lw_all := lw_g (lw_at lw_m13 201 rfl) rfl
theorem q3204 : (Jvm.Cond.methodLink "PointerAnalyzerModel" (209 : Nat) ({ cls := "PointerAnalyzerModel", name := "targetOf", desc := "(I)I" } : Jvm.MethodName)) ∈ lw_all := lw_g (lw_at lw_m13 202 rfl) rfl
theorem q3205 : (Jvm.Cond.privateMethod ({ cls := "PointerAnalyzerModel", name := "targetOf", desc := "(I)I" } : Jvm.MethodName)) ∈ lw_tbl := lw_at lw_m13 203 rfl
theorem q3206 : (Jvm.Cond.instanceMethod ({ cls := "PointerAnalyzerModel", name := "targetOf", desc := "(I)I" } : Jvm.MethodName)) ∈ lw_all := lw_g (lw_at lw_m13 204 rfl) rfl
theorem q3207 : (Jvm.Cond.code ({ cls := "PointerAnalyzerModel", name := "targetOf", desc := "(I)I" } : Jvm.MethodName) prog_21_method_40_code (2 : Nat) (Option.some Jvm.ClassFile.FieldType.int)) ∈ lw_all := lw_g (lw_at lw_m13 205 rfl) rfl
theorem q3208 : (Jvm.Cond.methodLink "PointerAnalyzerModel" (232 : Nat) ({ cls := "PointerAnalyzerModel", name := "findUnification", desc := "()V" } : Jvm.MethodName)) ∈ lw_all := lw_g (lw_at lw_m13 206 rfl) rfl
theorem q3209 : (Jvm.Cond.privateMethod ({ cls := "PointerAnalyzerModel", name := "findUnification", desc := "()V" } : Jvm.MethodName)) ∈ lw_tbl := lw_at lw_m13 207 rfl
theorem q3210 : (Jvm.Cond.instanceMethod ({ cls := "PointerAnalyzerModel", name := "findUnification", desc := "()V" } : Jvm.MethodName)) ∈ lw_all := lw_g (lw_at lw_m13 208 rfl) rfl
theorem q3211 : (Jvm.Cond.code ({ cls := "PointerAnalyzerModel", name := "findUnification", desc := "()V" } : Jvm.MethodName) prog_21_method_75_code (2 : Nat) (Option.none : Option Jvm.ClassFile.FieldType)) ∈ lw_all := lw_g (lw_at lw_m13 209 rfl) rfl
theorem q3212 : (Jvm.Cond.methodLink "PointerAnalyzerModel" (284 : Nat) ({ cls := "PointerAnalyzerModel", name := "made", desc := "()I" } : Jvm.MethodName)) ∈ lw_all := lw_g (lw_at lw_m13 210 rfl) rfl
theorem q3213 : (Jvm.Cond.privateMethod ({ cls := "PointerAnalyzerModel", name := "made", desc := "()I" } : Jvm.MethodName)) ∈ lw_tbl := lw_at lw_m13 211 rfl
theorem q3214 : (Jvm.Cond.instanceMethod ({ cls := "PointerAnalyzerModel", name := "made", desc := "()I" } : Jvm.MethodName)) ∈ lw_all := lw_g (lw_at lw_m13 212 rfl) rfl
theorem q3215 : (Jvm.Cond.code ({ cls := "PointerAnalyzerModel", name := "made", desc := "()I" } : Jvm.MethodName) prog_21_method_71_code (1 : Nat) (Option.some Jvm.ClassFile.FieldType.int)) ∈ lw_all := lw_g (lw_at lw_m13 213 rfl) rfl
theorem q3216 : (Jvm.Cond.methodLink "PointerAnalyzerModel" (290 : Nat) ({ cls := "PointerAnalyzerModel", name := "pointed", desc := "(I)I" } : Jvm.MethodName)) ∈ lw_all := lw_g (lw_at lw_m13 214 rfl) rfl
theorem q3217 : (Jvm.Cond.privateMethod ({ cls := "PointerAnalyzerModel", name := "pointed", desc := "(I)I" } : Jvm.MethodName)) ∈ lw_tbl := lw_at lw_m13 215 rfl
theorem q3218 : (Jvm.Cond.instanceMethod ({ cls := "PointerAnalyzerModel", name := "pointed", desc := "(I)I" } : Jvm.MethodName)) ∈ lw_all := lw_g (lw_at lw_m13 216 rfl) rfl
theorem q3219 : (Jvm.Cond.code ({ cls := "PointerAnalyzerModel", name := "pointed", desc := "(I)I" } : Jvm.MethodName) prog_21_method_72_code (3 : Nat) (Option.some Jvm.ClassFile.FieldType.int)) ∈ lw_all := lw_g (lw_at lw_m13 217 rfl) rfl
theorem q3220 : (Jvm.Cond.methodLink "PointerAnalyzerModel" (281 : Nat) ({ cls := "PointerAnalyzerModel", name := "rootOf", desc := "(I)I" } : Jvm.MethodName)) ∈ lw_all := lw_g (lw_at lw_m13 218 rfl) rfl
theorem q3221 : (Jvm.Cond.privateMethod ({ cls := "PointerAnalyzerModel", name := "rootOf", desc := "(I)I" } : Jvm.MethodName)) ∈ lw_tbl := lw_at lw_m13 219 rfl
theorem q3222 : (Jvm.Cond.instanceMethod ({ cls := "PointerAnalyzerModel", name := "rootOf", desc := "(I)I" } : Jvm.MethodName)) ∈ lw_all := lw_g (lw_at lw_m13 220 rfl) rfl
theorem q3223 : (Jvm.Cond.code ({ cls := "PointerAnalyzerModel", name := "rootOf", desc := "(I)I" } : Jvm.MethodName) prog_21_method_70_code (3 : Nat) (Option.some Jvm.ClassFile.FieldType.int)) ∈ lw_all := lw_g (lw_at lw_m13 221 rfl) rfl
theorem q3224 : (Jvm.Cond.methodLink "PointerAnalyzerModel" (296 : Nat) ({ cls := "PointerAnalyzerModel", name := "unifiesBy", desc := "(I)V" } : Jvm.MethodName)) ∈ lw_all := lw_g (lw_at lw_m13 222 rfl) rfl
theorem q3225 : (Jvm.Cond.privateMethod ({ cls := "PointerAnalyzerModel", name := "unifiesBy", desc := "(I)V" } : Jvm.MethodName)) ∈ lw_tbl := lw_at lw_m13 223 rfl
theorem q3226 : (Jvm.Cond.instanceMethod ({ cls := "PointerAnalyzerModel", name := "unifiesBy", desc := "(I)V" } : Jvm.MethodName)) ∈ lw_all := lw_g (lw_at lw_m13 224 rfl) rfl
theorem q3227 : (Jvm.Cond.code ({ cls := "PointerAnalyzerModel", name := "unifiesBy", desc := "(I)V" } : Jvm.MethodName) prog_21_method_74_code (5 : Nat) (Option.none : Option Jvm.ClassFile.FieldType)) ∈ lw_all := lw_g (lw_at lw_m13 225 rfl) rfl
theorem q3228 : (Jvm.Cond.methodLink "PointerAnalyzerModel" (293 : Nat) ({ cls := "PointerAnalyzerModel", name := "unifies", desc := "(II)V" } : Jvm.MethodName)) ∈ lw_all := lw_g (lw_at lw_m13 226 rfl) rfl
theorem q3229 : (Jvm.Cond.privateMethod ({ cls := "PointerAnalyzerModel", name := "unifies", desc := "(II)V" } : Jvm.MethodName)) ∈ lw_tbl := lw_at lw_m13 227 rfl
theorem q3230 : (Jvm.Cond.instanceMethod ({ cls := "PointerAnalyzerModel", name := "unifies", desc := "(II)V" } : Jvm.MethodName)) ∈ lw_all := lw_g (lw_at lw_m13 228 rfl) rfl
theorem q3231 : (Jvm.Cond.code ({ cls := "PointerAnalyzerModel", name := "unifies", desc := "(II)V" } : Jvm.MethodName) prog_21_method_73_code (5 : Nat) (Option.none : Option Jvm.ClassFile.FieldType)) ∈ lw_all := lw_g (lw_at lw_m13 229 rfl) rfl
theorem q3232 : (Jvm.Cond.methodLink "PointerAnalyzerModel" (238 : Nat) ({ cls := "PointerAnalyzerModel", name := "contextsOf", desc := "(I)I" } : Jvm.MethodName)) ∈ lw_all := lw_g (lw_at lw_m13 230 rfl) rfl
theorem q3233 : (Jvm.Cond.privateMethod ({ cls := "PointerAnalyzerModel", name := "contextsOf", desc := "(I)I" } : Jvm.MethodName)) ∈ lw_tbl := lw_at lw_m13 231 rfl
theorem q3234 : (Jvm.Cond.instanceMethod ({ cls := "PointerAnalyzerModel", name := "contextsOf", desc := "(I)I" } : Jvm.MethodName)) ∈ lw_all := lw_g (lw_at lw_m13 232 rfl) rfl
theorem q3235 : (Jvm.Cond.code ({ cls := "PointerAnalyzerModel", name := "contextsOf", desc := "(I)I" } : Jvm.MethodName) prog_21_method_49_code (4 : Nat) (Option.some Jvm.ClassFile.FieldType.int)) ∈ lw_all := lw_g (lw_at lw_m13 233 rfl) rfl
theorem q3237 : (Jvm.Cond.instanceMethod ({ cls := "PointerAnalyzerModel", name := "contextLength", desc := "(II)I" } : Jvm.MethodName)) ∈ lw_all := lw_g (lw_at lw_m13 235 rfl) rfl
theorem q3238 : (Jvm.Cond.selects "PointerAnalyzerModel" ({ cls := "PointerAnalyzerModel", name := "contextLength", desc := "(II)I" } : Jvm.MethodName) ({ cls := "PointerAnalyzerModel", name := "contextLength", desc := "(II)I" } : Jvm.MethodName)) ∈ lw_all := lw_g (lw_at lw_m13 236 rfl) rfl
theorem q3239 : (Jvm.Cond.code ({ cls := "PointerAnalyzerModel", name := "contextLength", desc := "(II)I" } : Jvm.MethodName) prog_21_method_52_code (4 : Nat) (Option.some Jvm.ClassFile.FieldType.int)) ∈ lw_all := lw_g (lw_at lw_m13 237 rfl) rfl
theorem q3240 : (Jvm.Cond.methodLink "PointerAnalyzerModel" (244 : Nat) ({ cls := "PointerAnalyzerModel", name := "codeOf", desc := "(II)I" } : Jvm.MethodName)) ∈ lw_all := lw_g (lw_at lw_m13 238 rfl) rfl
theorem q3241 : (Jvm.Cond.privateMethod ({ cls := "PointerAnalyzerModel", name := "codeOf", desc := "(II)I" } : Jvm.MethodName)) ∈ lw_tbl := lw_at lw_m13 239 rfl
theorem q3242 : (Jvm.Cond.instanceMethod ({ cls := "PointerAnalyzerModel", name := "codeOf", desc := "(II)I" } : Jvm.MethodName)) ∈ lw_all := lw_g (lw_at lw_m14 0 rfl) rfl
theorem q3243 : (Jvm.Cond.code ({ cls := "PointerAnalyzerModel", name := "codeOf", desc := "(II)I" } : Jvm.MethodName) prog_21_method_51_code (3 : Nat) (Option.some Jvm.ClassFile.FieldType.int)) ∈ lw_all := lw_g (lw_at lw_m14 1 rfl) rfl
theorem q3244 : (Jvm.Cond.methodLink "PointerAnalyzerModel" (241 : Nat) ({ cls := "PointerAnalyzerModel", name := "firstOf", desc := "(I)I" } : Jvm.MethodName)) ∈ lw_all := lw_g (lw_at lw_m14 2 rfl) rfl
theorem q3245 : (Jvm.Cond.privateMethod ({ cls := "PointerAnalyzerModel", name := "firstOf", desc := "(I)I" } : Jvm.MethodName)) ∈ lw_tbl := lw_at lw_m14 3 rfl
theorem q3246 : (Jvm.Cond.instanceMethod ({ cls := "PointerAnalyzerModel", name := "firstOf", desc := "(I)I" } : Jvm.MethodName)) ∈ lw_all := lw_g (lw_at lw_m14 4 rfl) rfl
theorem q3247 : (Jvm.Cond.code ({ cls := "PointerAnalyzerModel", name := "firstOf", desc := "(I)I" } : Jvm.MethodName) prog_21_method_48_code (3 : Nat) (Option.some Jvm.ClassFile.FieldType.int)) ∈ lw_all := lw_g (lw_at lw_m14 5 rfl) rfl
theorem q3249 : (Jvm.Cond.instanceMethod ({ cls := "PointerAnalyzerModel", name := "contextCall", desc := "(III)I" } : Jvm.MethodName)) ∈ lw_all := lw_g (lw_at lw_m14 7 rfl) rfl
theorem q3250 : (Jvm.Cond.selects "PointerAnalyzerModel" ({ cls := "PointerAnalyzerModel", name := "contextCall", desc := "(III)I" } : Jvm.MethodName) ({ cls := "PointerAnalyzerModel", name := "contextCall", desc := "(III)I" } : Jvm.MethodName)) ∈ lw_all := lw_g (lw_at lw_m14 8 rfl) rfl
theorem q3251 : (Jvm.Cond.code ({ cls := "PointerAnalyzerModel", name := "contextCall", desc := "(III)I" } : Jvm.MethodName) prog_21_method_53_code (5 : Nat) (Option.some Jvm.ClassFile.FieldType.int)) ∈ lw_all := lw_g (lw_at lw_m14 9 rfl) rfl
theorem q3253 : (Jvm.Cond.instanceMethod ({ cls := "PointerAnalyzerModel", name := "pointsTo", desc := "(I)J" } : Jvm.MethodName)) ∈ lw_all := lw_g (lw_at lw_m14 11 rfl) rfl
theorem q3254 : (Jvm.Cond.selects "PointerAnalyzerModel" ({ cls := "PointerAnalyzerModel", name := "pointsTo", desc := "(I)J" } : Jvm.MethodName) ({ cls := "PointerAnalyzerModel", name := "pointsTo", desc := "(I)J" } : Jvm.MethodName)) ∈ lw_all := lw_g (lw_at lw_m14 12 rfl) rfl
theorem q3255 : (Jvm.Cond.code ({ cls := "PointerAnalyzerModel", name := "pointsTo", desc := "(I)J" } : Jvm.MethodName) prog_21_method_56_code (2 : Nat) (Option.some Jvm.ClassFile.FieldType.long)) ∈ lw_all := lw_g (lw_at lw_m14 13 rfl) rfl
theorem q3256 : (Jvm.Cond.methodLink "PointerAnalyzerModel" (251 : Nat) ({ cls := "PointerAnalyzerModel", name := "isVariable", desc := "(I)Z" } : Jvm.MethodName)) ∈ lw_all := lw_g (lw_at lw_m14 14 rfl) rfl
theorem q3257 : (Jvm.Cond.static ({ cls := "PointerAnalyzerModel", name := "isVariable", desc := "(I)Z" } : Jvm.MethodName)) ∈ lw_all := lw_g (lw_at lw_m14 15 rfl) rfl
theorem q3258 : (Jvm.Cond.code ({ cls := "PointerAnalyzerModel", name := "isVariable", desc := "(I)Z" } : Jvm.MethodName) prog_21_method_8_code (1 : Nat) (Option.some Jvm.ClassFile.FieldType.boolean)) ∈ lw_all := lw_g (lw_at lw_m14 16 rfl) rfl
theorem q3259 : (Jvm.Cond.methodLink "PointerAnalyzerModel" (254 : Nat) ({ cls := "PointerAnalyzerModel", name := "targetsBy", desc := "(I)J" } : Jvm.MethodName)) ∈ lw_all := lw_g (lw_at lw_m14 17 rfl) rfl
theorem q3260 : (Jvm.Cond.privateMethod ({ cls := "PointerAnalyzerModel", name := "targetsBy", desc := "(I)J" } : Jvm.MethodName)) ∈ lw_tbl := lw_at lw_m14 18 rfl
theorem q3261 : (Jvm.Cond.instanceMethod ({ cls := "PointerAnalyzerModel", name := "targetsBy", desc := "(I)J" } : Jvm.MethodName)) ∈ lw_all := lw_g (lw_at lw_m14 19 rfl) rfl
theorem q3262 : (Jvm.Cond.code ({ cls := "PointerAnalyzerModel", name := "targetsBy", desc := "(I)J" } : Jvm.MethodName) prog_21_method_55_code (5 : Nat) (Option.some Jvm.ClassFile.FieldType.long)) ∈ lw_all := lw_g (lw_at lw_m14 20 rfl) rfl
theorem q3263 : (Jvm.Cond.methodLink "PointerAnalyzerModel" (247 : Nat) ({ cls := "PointerAnalyzerModel", name := "targetsOf", desc := "(I)J" } : Jvm.MethodName)) ∈ lw_all := lw_g (lw_at lw_m14 21 rfl) rfl
theorem q3264 : (Jvm.Cond.privateMethod ({ cls := "PointerAnalyzerModel", name := "targetsOf", desc := "(I)J" } : Jvm.MethodName)) ∈ lw_tbl := lw_at lw_m14 22 rfl
theorem q3265 : (Jvm.Cond.instanceMethod ({ cls := "PointerAnalyzerModel", name := "targetsOf", desc := "(I)J" } : Jvm.MethodName)) ∈ lw_all := lw_g (lw_at lw_m14 23 rfl) rfl
theorem q3266 : (Jvm.Cond.code ({ cls := "PointerAnalyzerModel", name := "targetsOf", desc := "(I)J" } : Jvm.MethodName) prog_21_method_54_code (5 : Nat) (Option.some Jvm.ClassFile.FieldType.long)) ∈ lw_all := lw_g (lw_at lw_m14 24 rfl) rfl
theorem q3268 : (Jvm.Cond.instanceMethod ({ cls := "PointerAnalyzerModel", name := "pointsToIn", desc := "(II)J" } : Jvm.MethodName)) ∈ lw_all := lw_g (lw_at lw_m14 26 rfl) rfl
theorem q3269 : (Jvm.Cond.selects "PointerAnalyzerModel" ({ cls := "PointerAnalyzerModel", name := "pointsToIn", desc := "(II)J" } : Jvm.MethodName) ({ cls := "PointerAnalyzerModel", name := "pointsToIn", desc := "(II)J" } : Jvm.MethodName)) ∈ lw_all := lw_g (lw_at lw_m14 27 rfl) rfl
theorem q3270 : (Jvm.Cond.code ({ cls := "PointerAnalyzerModel", name := "pointsToIn", desc := "(II)J" } : Jvm.MethodName) prog_21_method_57_code (4 : Nat) (Option.some Jvm.ClassFile.FieldType.long)) ∈ lw_all := lw_g (lw_at lw_m14 28 rfl) rfl
theorem q3272 : (Jvm.Cond.instanceMethod ({ cls := "PointerAnalyzerModel", name := "fieldPointsTo", desc := "(II)J" } : Jvm.MethodName)) ∈ lw_all := lw_g (lw_at lw_m14 30 rfl) rfl
theorem q3273 : (Jvm.Cond.selects "PointerAnalyzerModel" ({ cls := "PointerAnalyzerModel", name := "fieldPointsTo", desc := "(II)J" } : Jvm.MethodName) ({ cls := "PointerAnalyzerModel", name := "fieldPointsTo", desc := "(II)J" } : Jvm.MethodName)) ∈ lw_all := lw_g (lw_at lw_m14 31 rfl) rfl
theorem q3274 : (Jvm.Cond.code ({ cls := "PointerAnalyzerModel", name := "fieldPointsTo", desc := "(II)J" } : Jvm.MethodName) prog_21_method_59_code (3 : Nat) (Option.some Jvm.ClassFile.FieldType.long)) ∈ lw_all := lw_g (lw_at lw_m14 32 rfl) rfl
theorem q3275 : (Jvm.Cond.methodLink "PointerAnalyzerModel" (257 : Nat) ({ cls := "PointerAnalyzerModel", name := "isField", desc := "(II)Z" } : Jvm.MethodName)) ∈ lw_all := lw_g (lw_at lw_m14 33 rfl) rfl
theorem q3276 : (Jvm.Cond.privateMethod ({ cls := "PointerAnalyzerModel", name := "isField", desc := "(II)Z" } : Jvm.MethodName)) ∈ lw_tbl := lw_at lw_m14 34 rfl
theorem q3277 : (Jvm.Cond.instanceMethod ({ cls := "PointerAnalyzerModel", name := "isField", desc := "(II)Z" } : Jvm.MethodName)) ∈ lw_all := lw_g (lw_at lw_m14 35 rfl) rfl
theorem q3278 : (Jvm.Cond.code ({ cls := "PointerAnalyzerModel", name := "isField", desc := "(II)Z" } : Jvm.MethodName) prog_21_method_58_code (3 : Nat) (Option.some Jvm.ClassFile.FieldType.boolean)) ∈ lw_all := lw_g (lw_at lw_m14 36 rfl) rfl
theorem q3280 : (Jvm.Cond.instanceMethod ({ cls := "PointerAnalyzerModel", name := "factCount", desc := "()I" } : Jvm.MethodName)) ∈ lw_all := lw_g (lw_at lw_m14 38 rfl) rfl
theorem q3281 : (Jvm.Cond.selects "PointerAnalyzerModel" ({ cls := "PointerAnalyzerModel", name := "factCount", desc := "()I" } : Jvm.MethodName) ({ cls := "PointerAnalyzerModel", name := "factCount", desc := "()I" } : Jvm.MethodName)) ∈ lw_all := lw_g (lw_at lw_m14 39 rfl) rfl
theorem q3282 : (Jvm.Cond.code ({ cls := "PointerAnalyzerModel", name := "factCount", desc := "()I" } : Jvm.MethodName) prog_21_method_60_code (3 : Nat) (Option.some Jvm.ClassFile.FieldType.int)) ∈ lw_all := lw_g (lw_at lw_m14 40 rfl) rfl
theorem q3283 : (Jvm.Cond.methodLink "PointerAnalyzerModel" (260 : Nat) ({ cls := "PointerAnalyzerModel", name := "bits", desc := "(J)I" } : Jvm.MethodName)) ∈ lw_all := lw_g (lw_at lw_m14 41 rfl) rfl
theorem q3284 : (Jvm.Cond.static ({ cls := "PointerAnalyzerModel", name := "bits", desc := "(J)I" } : Jvm.MethodName)) ∈ lw_all := lw_g (lw_at lw_m14 42 rfl) rfl
theorem q3285 : (Jvm.Cond.code ({ cls := "PointerAnalyzerModel", name := "bits", desc := "(J)I" } : Jvm.MethodName) prog_21_method_6_code (4 : Nat) (Option.some Jvm.ClassFile.FieldType.int)) ∈ lw_all := lw_g (lw_at lw_m14 43 rfl) rfl
theorem q3287 : (Jvm.Cond.instanceMethod ({ cls := "PointerAnalyzerModel", name := "mayAlias", desc := "(II)Z" } : Jvm.MethodName)) ∈ lw_all := lw_g (lw_at lw_m14 45 rfl) rfl
theorem q3288 : (Jvm.Cond.selects "PointerAnalyzerModel" ({ cls := "PointerAnalyzerModel", name := "mayAlias", desc := "(II)Z" } : Jvm.MethodName) ({ cls := "PointerAnalyzerModel", name := "mayAlias", desc := "(II)Z" } : Jvm.MethodName)) ∈ lw_all := lw_g (lw_at lw_m14 46 rfl) rfl
theorem q3289 : (Jvm.Cond.code ({ cls := "PointerAnalyzerModel", name := "mayAlias", desc := "(II)Z" } : Jvm.MethodName) prog_21_method_61_code (3 : Nat) (Option.some Jvm.ClassFile.FieldType.boolean)) ∈ lw_all := lw_g (lw_at lw_m14 47 rfl) rfl
theorem q3290 : (Jvm.Cond.methodLink "PointerAnalyzerModel" (264 : Nat) ({ cls := "PointerAnalyzerModel", name := "refuses", desc := "(I)Z" } : Jvm.MethodName)) ∈ lw_all := lw_g (lw_at lw_m14 48 rfl) rfl
theorem q3291 : (Jvm.Cond.privateMethod ({ cls := "PointerAnalyzerModel", name := "refuses", desc := "(I)Z" } : Jvm.MethodName)) ∈ lw_tbl := lw_at lw_m14 49 rfl
theorem q3292 : (Jvm.Cond.instanceMethod ({ cls := "PointerAnalyzerModel", name := "refuses", desc := "(I)Z" } : Jvm.MethodName)) ∈ lw_all := lw_g (lw_at lw_m14 50 rfl) rfl
theorem q3293 : (Jvm.Cond.code ({ cls := "PointerAnalyzerModel", name := "refuses", desc := "(I)Z" } : Jvm.MethodName) prog_21_method_4_code (2 : Nat) (Option.some Jvm.ClassFile.FieldType.boolean)) ∈ lw_all := lw_g (lw_at lw_m14 51 rfl) rfl
theorem q3295 : (Jvm.Cond.instanceMethod ({ cls := "PointerAnalyzerModel", name := "reach", desc := "(I)J" } : Jvm.MethodName)) ∈ lw_all := lw_g (lw_at lw_m14 53 rfl) rfl
theorem q3296 : (Jvm.Cond.selects "PointerAnalyzerModel" ({ cls := "PointerAnalyzerModel", name := "reach", desc := "(I)J" } : Jvm.MethodName) ({ cls := "PointerAnalyzerModel", name := "reach", desc := "(I)J" } : Jvm.MethodName)) ∈ lw_all := lw_g (lw_at lw_m14 54 rfl) rfl
theorem q3297 : (Jvm.Cond.code ({ cls := "PointerAnalyzerModel", name := "reach", desc := "(I)J" } : Jvm.MethodName) prog_21_method_63_code (2 : Nat) (Option.some Jvm.ClassFile.FieldType.long)) ∈ lw_all := lw_g (lw_at lw_m14 55 rfl) rfl
theorem q3298 : (Jvm.Cond.methodLink "PointerAnalyzerModel" (267 : Nat) ({ cls := "PointerAnalyzerModel", name := "reached", desc := "(I)J" } : Jvm.MethodName)) ∈ lw_all := lw_g (lw_at lw_m14 56 rfl) rfl
theorem q3299 : (Jvm.Cond.privateMethod ({ cls := "PointerAnalyzerModel", name := "reached", desc := "(I)J" } : Jvm.MethodName)) ∈ lw_tbl := lw_at lw_m14 57 rfl
theorem q3300 : (Jvm.Cond.instanceMethod ({ cls := "PointerAnalyzerModel", name := "reached", desc := "(I)J" } : Jvm.MethodName)) ∈ lw_all := lw_g (lw_at lw_m14 58 rfl) rfl
theorem q3301 : (Jvm.Cond.code ({ cls := "PointerAnalyzerModel", name := "reached", desc := "(I)J" } : Jvm.MethodName) prog_21_method_62_code (7 : Nat) (Option.some Jvm.ClassFile.FieldType.long)) ∈ lw_all := lw_g (lw_at lw_m14 59 rfl) rfl
theorem q3303 : (Jvm.Cond.instanceMethod ({ cls := "PointerAnalyzerModel", name := "escapingSites", desc := "()I" } : Jvm.MethodName)) ∈ lw_all := lw_g (lw_at lw_m14 61 rfl) rfl
theorem q3304 : (Jvm.Cond.selects "PointerAnalyzerModel" ({ cls := "PointerAnalyzerModel", name := "escapingSites", desc := "()I" } : Jvm.MethodName) ({ cls := "PointerAnalyzerModel", name := "escapingSites", desc := "()I" } : Jvm.MethodName)) ∈ lw_all := lw_g (lw_at lw_m14 62 rfl) rfl
theorem q3305 : (Jvm.Cond.code ({ cls := "PointerAnalyzerModel", name := "escapingSites", desc := "()I" } : Jvm.MethodName) prog_21_method_64_code (5 : Nat) (Option.some Jvm.ClassFile.FieldType.int)) ∈ lw_all := lw_g (lw_at lw_m14 63 rfl) rfl
theorem q3306 : (Jvm.Cond.constantLong "PointerAnalyzerModel" (270 : Nat) (7 : Int64)) ∈ lw_all := lw_g (lw_at lw_m14 64 rfl) rfl
theorem q3308 : (Jvm.Cond.instanceMethod ({ cls := "PointerAnalyzerModel", name := "rank", desc := "(II)I" } : Jvm.MethodName)) ∈ lw_all := lw_g (lw_at lw_m14 66 rfl) rfl
theorem q3309 : (Jvm.Cond.selects "PointerAnalyzerModel" ({ cls := "PointerAnalyzerModel", name := "rank", desc := "(II)I" } : Jvm.MethodName) ({ cls := "PointerAnalyzerModel", name := "rank", desc := "(II)I" } : Jvm.MethodName)) ∈ lw_all := lw_g (lw_at lw_m14 67 rfl) rfl
theorem q3310 : (Jvm.Cond.code ({ cls := "PointerAnalyzerModel", name := "rank", desc := "(II)I" } : Jvm.MethodName) prog_21_method_67_code (4 : Nat) (Option.some Jvm.ClassFile.FieldType.int)) ∈ lw_all := lw_g (lw_at lw_m14 68 rfl) rfl
theorem q3311 : (Jvm.Cond.methodLink "PointerAnalyzerModel" (275 : Nat) ({ cls := "PointerAnalyzerModel", name := "factAt", desc := "(II)I" } : Jvm.MethodName)) ∈ lw_all := lw_g (lw_at lw_m14 69 rfl) rfl
theorem q3312 : (Jvm.Cond.privateMethod ({ cls := "PointerAnalyzerModel", name := "factAt", desc := "(II)I" } : Jvm.MethodName)) ∈ lw_tbl := lw_at lw_m14 70 rfl
theorem q3313 : (Jvm.Cond.instanceMethod ({ cls := "PointerAnalyzerModel", name := "factAt", desc := "(II)I" } : Jvm.MethodName)) ∈ lw_all := lw_g (lw_at lw_m14 71 rfl) rfl
theorem q3314 : (Jvm.Cond.code ({ cls := "PointerAnalyzerModel", name := "factAt", desc := "(II)I" } : Jvm.MethodName) prog_21_method_66_code (3 : Nat) (Option.some Jvm.ClassFile.FieldType.int)) ∈ lw_all := lw_g (lw_at lw_m14 72 rfl) rfl
theorem q3315 : (Jvm.Cond.methodLink "PointerAnalyzerModel" (272 : Nat) ({ cls := "PointerAnalyzerModel", name := "isTarget", desc := "(I)Z" } : Jvm.MethodName)) ∈ lw_all := lw_g (lw_at lw_m14 73 rfl) rfl
theorem q3316 : (Jvm.Cond.privateMethod ({ cls := "PointerAnalyzerModel", name := "isTarget", desc := "(I)Z" } : Jvm.MethodName)) ∈ lw_tbl := lw_at lw_m14 74 rfl
theorem q3317 : (Jvm.Cond.instanceMethod ({ cls := "PointerAnalyzerModel", name := "isTarget", desc := "(I)Z" } : Jvm.MethodName)) ∈ lw_all := lw_g (lw_at lw_m14 75 rfl) rfl
theorem q3318 : (Jvm.Cond.code ({ cls := "PointerAnalyzerModel", name := "isTarget", desc := "(I)Z" } : Jvm.MethodName) prog_21_method_65_code (2 : Nat) (Option.some Jvm.ClassFile.FieldType.boolean)) ∈ lw_all := lw_g (lw_at lw_m14 76 rfl) rfl
theorem q3320 : (Jvm.Cond.instanceMethod ({ cls := "PointerAnalyzerModel", name := "reason", desc := "(II)I" } : Jvm.MethodName)) ∈ lw_all := lw_g (lw_at lw_m14 78 rfl) rfl
theorem q3321 : (Jvm.Cond.selects "PointerAnalyzerModel" ({ cls := "PointerAnalyzerModel", name := "reason", desc := "(II)I" } : Jvm.MethodName) ({ cls := "PointerAnalyzerModel", name := "reason", desc := "(II)I" } : Jvm.MethodName)) ∈ lw_all := lw_g (lw_at lw_m14 79 rfl) rfl
theorem q3322 : (Jvm.Cond.code ({ cls := "PointerAnalyzerModel", name := "reason", desc := "(II)I" } : Jvm.MethodName) prog_21_method_68_code (4 : Nat) (Option.some Jvm.ClassFile.FieldType.int)) ∈ lw_all := lw_g (lw_at lw_m14 80 rfl) rfl
theorem q3324 : (Jvm.Cond.instanceMethod ({ cls := "PointerAnalyzerModel", name := "roundCount", desc := "()I" } : Jvm.MethodName)) ∈ lw_all := lw_g (lw_at lw_m14 82 rfl) rfl
theorem q3325 : (Jvm.Cond.selects "PointerAnalyzerModel" ({ cls := "PointerAnalyzerModel", name := "roundCount", desc := "()I" } : Jvm.MethodName) ({ cls := "PointerAnalyzerModel", name := "roundCount", desc := "()I" } : Jvm.MethodName)) ∈ lw_all := lw_g (lw_at lw_m14 83 rfl) rfl
theorem q3326 : (Jvm.Cond.code ({ cls := "PointerAnalyzerModel", name := "roundCount", desc := "()I" } : Jvm.MethodName) prog_21_method_69_code (1 : Nat) (Option.some Jvm.ClassFile.FieldType.int)) ∈ lw_all := lw_g (lw_at lw_m14 84 rfl) rfl
theorem q3328 : (Jvm.Cond.instanceMethod ({ cls := "PointerAnalyzerModel", name := "unifiedTargets", desc := "(I)J" } : Jvm.MethodName)) ∈ lw_all := lw_g (lw_at lw_m14 86 rfl) rfl
theorem q3329 : (Jvm.Cond.selects "PointerAnalyzerModel" ({ cls := "PointerAnalyzerModel", name := "unifiedTargets", desc := "(I)J" } : Jvm.MethodName) ({ cls := "PointerAnalyzerModel", name := "unifiedTargets", desc := "(I)J" } : Jvm.MethodName)) ∈ lw_all := lw_g (lw_at lw_m14 87 rfl) rfl
theorem q3330 : (Jvm.Cond.code ({ cls := "PointerAnalyzerModel", name := "unifiedTargets", desc := "(I)J" } : Jvm.MethodName) prog_21_method_77_code (2 : Nat) (Option.some Jvm.ClassFile.FieldType.long)) ∈ lw_all := lw_g (lw_at lw_m14 88 rfl) rfl
theorem q3331 : (Jvm.Cond.methodLink "PointerAnalyzerModel" (299 : Nat) ({ cls := "PointerAnalyzerModel", name := "unified", desc := "(I)J" } : Jvm.MethodName)) ∈ lw_all := lw_g (lw_at lw_m14 89 rfl) rfl
theorem q3332 : (Jvm.Cond.privateMethod ({ cls := "PointerAnalyzerModel", name := "unified", desc := "(I)J" } : Jvm.MethodName)) ∈ lw_tbl := lw_at lw_m14 90 rfl
theorem q3333 : (Jvm.Cond.instanceMethod ({ cls := "PointerAnalyzerModel", name := "unified", desc := "(I)J" } : Jvm.MethodName)) ∈ lw_all := lw_g (lw_at lw_m14 91 rfl) rfl
theorem q3334 : (Jvm.Cond.code ({ cls := "PointerAnalyzerModel", name := "unified", desc := "(I)J" } : Jvm.MethodName) prog_21_method_76_code (6 : Nat) (Option.some Jvm.ClassFile.FieldType.long)) ∈ lw_all := lw_g (lw_at lw_m14 92 rfl) rfl
theorem q3336 : (Jvm.Cond.instanceMethod ({ cls := "PointerAnalyzerModel", name := "areUnified", desc := "(II)Z" } : Jvm.MethodName)) ∈ lw_all := lw_g (lw_at lw_m14 94 rfl) rfl
theorem q3337 : (Jvm.Cond.selects "PointerAnalyzerModel" ({ cls := "PointerAnalyzerModel", name := "areUnified", desc := "(II)Z" } : Jvm.MethodName) ({ cls := "PointerAnalyzerModel", name := "areUnified", desc := "(II)Z" } : Jvm.MethodName)) ∈ lw_all := lw_g (lw_at lw_m14 95 rfl) rfl
theorem q3338 : (Jvm.Cond.code ({ cls := "PointerAnalyzerModel", name := "areUnified", desc := "(II)Z" } : Jvm.MethodName) prog_21_method_78_code (3 : Nat) (Option.some Jvm.ClassFile.FieldType.boolean)) ∈ lw_all := lw_g (lw_at lw_m14 96 rfl) rfl
theorem q3340 : (Jvm.Cond.instanceMethod ({ cls := "PointerAnalyzerModel", name := "unifiedClasses", desc := "()I" } : Jvm.MethodName)) ∈ lw_all := lw_g (lw_at lw_m14 98 rfl) rfl
theorem q3341 : (Jvm.Cond.selects "PointerAnalyzerModel" ({ cls := "PointerAnalyzerModel", name := "unifiedClasses", desc := "()I" } : Jvm.MethodName) ({ cls := "PointerAnalyzerModel", name := "unifiedClasses", desc := "()I" } : Jvm.MethodName)) ∈ lw_all := lw_g (lw_at lw_m14 99 rfl) rfl
theorem q3342 : (Jvm.Cond.code ({ cls := "PointerAnalyzerModel", name := "unifiedClasses", desc := "()I" } : Jvm.MethodName) prog_21_method_79_code (5 : Nat) (Option.some Jvm.ClassFile.FieldType.int)) ∈ lw_all := lw_g (lw_at lw_m14 100 rfl) rfl
theorem q3344 : (Jvm.Cond.instanceMethod ({ cls := "PointerAnalyzerModel", name := "modifies", desc := "(I)J" } : Jvm.MethodName)) ∈ lw_all := lw_g (lw_at lw_m14 102 rfl) rfl
theorem q3345 : (Jvm.Cond.selects "PointerAnalyzerModel" ({ cls := "PointerAnalyzerModel", name := "modifies", desc := "(I)J" } : Jvm.MethodName) ({ cls := "PointerAnalyzerModel", name := "modifies", desc := "(I)J" } : Jvm.MethodName)) ∈ lw_all := lw_g (lw_at lw_m14 103 rfl) rfl
theorem q3346 : (Jvm.Cond.code ({ cls := "PointerAnalyzerModel", name := "modifies", desc := "(I)J" } : Jvm.MethodName) prog_21_method_81_code (7 : Nat) (Option.some Jvm.ClassFile.FieldType.long)) ∈ lw_all := lw_g (lw_at lw_m14 104 rfl) rfl
theorem q3347 : (Jvm.Cond.methodLink "PointerAnalyzerModel" (302 : Nat) ({ cls := "PointerAnalyzerModel", name := "called", desc := "(I)I" } : Jvm.MethodName)) ∈ lw_all := lw_g (lw_at lw_m14 105 rfl) rfl
theorem q3348 : (Jvm.Cond.privateMethod ({ cls := "PointerAnalyzerModel", name := "called", desc := "(I)I" } : Jvm.MethodName)) ∈ lw_tbl := lw_at lw_m14 106 rfl
theorem q3349 : (Jvm.Cond.instanceMethod ({ cls := "PointerAnalyzerModel", name := "called", desc := "(I)I" } : Jvm.MethodName)) ∈ lw_all := lw_g (lw_at lw_m14 107 rfl) rfl
theorem q3350 : (Jvm.Cond.code ({ cls := "PointerAnalyzerModel", name := "called", desc := "(I)I" } : Jvm.MethodName) prog_21_method_80_code (6 : Nat) (Option.some Jvm.ClassFile.FieldType.int)) ∈ lw_all := lw_g (lw_at lw_m14 108 rfl) rfl
theorem q3352 : (Jvm.Cond.instanceMethod ({ cls := "PointerAnalyzerModel", name := "isReachable", desc := "(I)Z" } : Jvm.MethodName)) ∈ lw_all := lw_g (lw_at lw_m14 110 rfl) rfl
theorem q3353 : (Jvm.Cond.selects "PointerAnalyzerModel" ({ cls := "PointerAnalyzerModel", name := "isReachable", desc := "(I)Z" } : Jvm.MethodName) ({ cls := "PointerAnalyzerModel", name := "isReachable", desc := "(I)Z" } : Jvm.MethodName)) ∈ lw_all := lw_g (lw_at lw_m14 111 rfl) rfl
theorem q3354 : (Jvm.Cond.code ({ cls := "PointerAnalyzerModel", name := "isReachable", desc := "(I)Z" } : Jvm.MethodName) prog_21_method_82_code (2 : Nat) (Option.some Jvm.ClassFile.FieldType.boolean)) ∈ lw_all := lw_g (lw_at lw_m14 112 rfl) rfl
theorem q3356 : (Jvm.Cond.instanceMethod ({ cls := "PointerAnalyzerModel", name := "isRecursive", desc := "(I)Z" } : Jvm.MethodName)) ∈ lw_all := lw_g (lw_at lw_m14 114 rfl) rfl
theorem q3357 : (Jvm.Cond.selects "PointerAnalyzerModel" ({ cls := "PointerAnalyzerModel", name := "isRecursive", desc := "(I)Z" } : Jvm.MethodName) ({ cls := "PointerAnalyzerModel", name := "isRecursive", desc := "(I)Z" } : Jvm.MethodName)) ∈ lw_all := lw_g (lw_at lw_m14 115 rfl) rfl
theorem q3358 : (Jvm.Cond.code ({ cls := "PointerAnalyzerModel", name := "isRecursive", desc := "(I)Z" } : Jvm.MethodName) prog_21_method_83_code (2 : Nat) (Option.some Jvm.ClassFile.FieldType.boolean)) ∈ lw_all := lw_g (lw_at lw_m14 116 rfl) rfl
theorem q3360 : (Jvm.Cond.instanceMethod ({ cls := "PointerAnalyzerModel", name := "cycleOf", desc := "(I)I" } : Jvm.MethodName)) ∈ lw_all := lw_g (lw_at lw_m14 118 rfl) rfl
theorem q3361 : (Jvm.Cond.selects "PointerAnalyzerModel" ({ cls := "PointerAnalyzerModel", name := "cycleOf", desc := "(I)I" } : Jvm.MethodName) ({ cls := "PointerAnalyzerModel", name := "cycleOf", desc := "(I)I" } : Jvm.MethodName)) ∈ lw_all := lw_g (lw_at lw_m14 119 rfl) rfl
theorem q3362 : (Jvm.Cond.code ({ cls := "PointerAnalyzerModel", name := "cycleOf", desc := "(I)I" } : Jvm.MethodName) prog_21_method_86_code (2 : Nat) (Option.some Jvm.ClassFile.FieldType.int)) ∈ lw_all := lw_g (lw_at lw_m14 120 rfl) rfl
theorem q3363 : (Jvm.Cond.methodLink "PointerAnalyzerModel" (309 : Nat) ({ cls := "PointerAnalyzerModel", name := "led", desc := "(IZ)I" } : Jvm.MethodName)) ∈ lw_all := lw_g (lw_at lw_m14 121 rfl) rfl
theorem q3364 : (Jvm.Cond.privateMethod ({ cls := "PointerAnalyzerModel", name := "led", desc := "(IZ)I" } : Jvm.MethodName)) ∈ lw_tbl := lw_at lw_m14 122 rfl
theorem q3365 : (Jvm.Cond.instanceMethod ({ cls := "PointerAnalyzerModel", name := "led", desc := "(IZ)I" } : Jvm.MethodName)) ∈ lw_all := lw_g (lw_at lw_m14 123 rfl) rfl
theorem q3366 : (Jvm.Cond.code ({ cls := "PointerAnalyzerModel", name := "led", desc := "(IZ)I" } : Jvm.MethodName) prog_21_method_84_code (8 : Nat) (Option.some Jvm.ClassFile.FieldType.int)) ∈ lw_all := lw_g (lw_at lw_m14 124 rfl) rfl
theorem q3367 : (Jvm.Cond.methodLink "PointerAnalyzerModel" (305 : Nat) ({ cls := "PointerAnalyzerModel", name := "edge", desc := "(IIIZ)I" } : Jvm.MethodName)) ∈ lw_all := lw_g (lw_at lw_m14 125 rfl) rfl
theorem q3368 : (Jvm.Cond.static ({ cls := "PointerAnalyzerModel", name := "edge", desc := "(IIIZ)I" } : Jvm.MethodName)) ∈ lw_all := lw_g (lw_at lw_m14 126 rfl) rfl
theorem q3369 : (Jvm.Cond.code ({ cls := "PointerAnalyzerModel", name := "edge", desc := "(IIIZ)I" } : Jvm.MethodName) prog_21_method_85_code (4 : Nat) (Option.some Jvm.ClassFile.FieldType.int)) ∈ lw_all := lw_g (lw_at lw_m14 127 rfl) rfl
theorem q3371 : (Jvm.Cond.instanceMethod ({ cls := "PointerAnalyzerModel", name := "run", desc := "()I" } : Jvm.MethodName)) ∈ lw_all := lw_g (lw_at lw_m14 129 rfl) rfl
theorem q3372 : (Jvm.Cond.selects "PointerAnalyzerModel" ({ cls := "PointerAnalyzerModel", name := "run", desc := "()I" } : Jvm.MethodName) ({ cls := "PointerAnalyzerModel", name := "run", desc := "()I" } : Jvm.MethodName)) ∈ lw_all := lw_g (lw_at lw_m14 130 rfl) rfl
theorem q3373 : (Jvm.Cond.code ({ cls := "PointerAnalyzerModel", name := "run", desc := "()I" } : Jvm.MethodName) prog_21_method_95_code (3 : Nat) (Option.some Jvm.ClassFile.FieldType.int)) ∈ lw_all := lw_g (lw_at lw_m14 131 rfl) rfl
theorem q3374 : (Jvm.Cond.methodLink "PointerAnalyzerModel" (341 : Nat) ({ cls := "PointerAnalyzerModel", name := "opens", desc := "(I)V" } : Jvm.MethodName)) ∈ lw_all := lw_g (lw_at lw_m14 132 rfl) rfl
theorem q3375 : (Jvm.Cond.privateMethod ({ cls := "PointerAnalyzerModel", name := "opens", desc := "(I)V" } : Jvm.MethodName)) ∈ lw_tbl := lw_at lw_m14 133 rfl
theorem q3376 : (Jvm.Cond.instanceMethod ({ cls := "PointerAnalyzerModel", name := "opens", desc := "(I)V" } : Jvm.MethodName)) ∈ lw_all := lw_g (lw_at lw_m14 134 rfl) rfl
theorem q3377 : (Jvm.Cond.code ({ cls := "PointerAnalyzerModel", name := "opens", desc := "(I)V" } : Jvm.MethodName) prog_21_method_90_code (3 : Nat) (Option.none : Option Jvm.ClassFile.FieldType)) ∈ lw_all := lw_g (lw_at lw_m14 135 rfl) rfl
theorem q3378 : (Jvm.Cond.methodLink "PointerAnalyzerModel" (344 : Nat) ({ cls := "PointerAnalyzerModel", name := "closes", desc := "()V" } : Jvm.MethodName)) ∈ lw_all := lw_g (lw_at lw_m14 136 rfl) rfl
theorem q3379 : (Jvm.Cond.privateMethod ({ cls := "PointerAnalyzerModel", name := "closes", desc := "()V" } : Jvm.MethodName)) ∈ lw_tbl := lw_at lw_m14 137 rfl
theorem q3380 : (Jvm.Cond.instanceMethod ({ cls := "PointerAnalyzerModel", name := "closes", desc := "()V" } : Jvm.MethodName)) ∈ lw_all := lw_g (lw_at lw_m14 138 rfl) rfl
theorem q3381 : (Jvm.Cond.code ({ cls := "PointerAnalyzerModel", name := "closes", desc := "()V" } : Jvm.MethodName) prog_21_method_94_code (3 : Nat) (Option.none : Option Jvm.ClassFile.FieldType)) ∈ lw_all := lw_g (lw_at lw_m14 139 rfl) rfl
theorem q3382 : (Jvm.Cond.methodLink "PointerAnalyzerModel" (328 : Nat) ({ cls := "PointerAnalyzerModel", name := "placeIn", desc := "(I)I" } : Jvm.MethodName)) ∈ lw_all := lw_g (lw_at lw_m14 140 rfl) rfl
theorem q3383 : (Jvm.Cond.privateMethod ({ cls := "PointerAnalyzerModel", name := "placeIn", desc := "(I)I" } : Jvm.MethodName)) ∈ lw_tbl := lw_at lw_m14 141 rfl
theorem q3384 : (Jvm.Cond.instanceMethod ({ cls := "PointerAnalyzerModel", name := "placeIn", desc := "(I)I" } : Jvm.MethodName)) ∈ lw_all := lw_g (lw_at lw_m14 142 rfl) rfl
theorem q3385 : (Jvm.Cond.code ({ cls := "PointerAnalyzerModel", name := "placeIn", desc := "(I)I" } : Jvm.MethodName) prog_21_method_89_code (2 : Nat) (Option.some Jvm.ClassFile.FieldType.int)) ∈ lw_all := lw_g (lw_at lw_m14 143 rfl) rfl
theorem q3386 : (Jvm.Cond.methodLink "PointerAnalyzerModel" (325 : Nat) ({ cls := "PointerAnalyzerModel", name := "assigns", desc := "(II)V" } : Jvm.MethodName)) ∈ lw_all := lw_g (lw_at lw_m14 144 rfl) rfl
theorem q3387 : (Jvm.Cond.privateMethod ({ cls := "PointerAnalyzerModel", name := "assigns", desc := "(II)V" } : Jvm.MethodName)) ∈ lw_tbl := lw_at lw_m14 145 rfl
theorem q3388 : (Jvm.Cond.instanceMethod ({ cls := "PointerAnalyzerModel", name := "assigns", desc := "(II)V" } : Jvm.MethodName)) ∈ lw_all := lw_g (lw_at lw_m14 146 rfl) rfl
theorem q3389 : (Jvm.Cond.code ({ cls := "PointerAnalyzerModel", name := "assigns", desc := "(II)V" } : Jvm.MethodName) prog_21_method_88_code (3 : Nat) (Option.none : Option Jvm.ClassFile.FieldType)) ∈ lw_all := lw_g (lw_at lw_m14 147 rfl) rfl
theorem q3390 : (Jvm.Cond.methodLink "PointerAnalyzerModel" (347 : Nat) ({ cls := "PointerAnalyzerModel", name := "executes", desc := "(I)V" } : Jvm.MethodName)) ∈ lw_all := lw_g (lw_at lw_m14 148 rfl) rfl
theorem q3391 : (Jvm.Cond.privateMethod ({ cls := "PointerAnalyzerModel", name := "executes", desc := "(I)V" } : Jvm.MethodName)) ∈ lw_tbl := lw_at lw_m14 149 rfl
theorem q3392 : (Jvm.Cond.instanceMethod ({ cls := "PointerAnalyzerModel", name := "executes", desc := "(I)V" } : Jvm.MethodName)) ∈ lw_all := lw_g (lw_at lw_m14 150 rfl) rfl
theorem q3393 : (Jvm.Cond.code ({ cls := "PointerAnalyzerModel", name := "executes", desc := "(I)V" } : Jvm.MethodName) prog_21_method_93_code (4 : Nat) (Option.none : Option Jvm.ClassFile.FieldType)) ∈ lw_all := lw_g (lw_at lw_m14 151 rfl) rfl
theorem q3394 : (Jvm.Cond.methodLink "PointerAnalyzerModel" (331 : Nat) ({ cls := "PointerAnalyzerModel", name := "makesObject", desc := "(I)I" } : Jvm.MethodName)) ∈ lw_all := lw_g (lw_at lw_m14 152 rfl) rfl
theorem q3395 : (Jvm.Cond.privateMethod ({ cls := "PointerAnalyzerModel", name := "makesObject", desc := "(I)I" } : Jvm.MethodName)) ∈ lw_tbl := lw_at lw_m14 153 rfl
theorem q3396 : (Jvm.Cond.instanceMethod ({ cls := "PointerAnalyzerModel", name := "makesObject", desc := "(I)I" } : Jvm.MethodName)) ∈ lw_all := lw_g (lw_at lw_m14 154 rfl) rfl
theorem q3397 : (Jvm.Cond.code ({ cls := "PointerAnalyzerModel", name := "makesObject", desc := "(I)I" } : Jvm.MethodName) prog_21_method_91_code (4 : Nat) (Option.some Jvm.ClassFile.FieldType.int)) ∈ lw_all := lw_g (lw_at lw_m14 155 rfl) rfl
theorem q3398 : (Jvm.Cond.methodLink "PointerAnalyzerModel" (334 : Nat) ({ cls := "PointerAnalyzerModel", name := "offsets", desc := "(III)V" } : Jvm.MethodName)) ∈ lw_all := lw_g (lw_at lw_m14 156 rfl) rfl
theorem q3399 : (Jvm.Cond.privateMethod ({ cls := "PointerAnalyzerModel", name := "offsets", desc := "(III)V" } : Jvm.MethodName)) ∈ lw_tbl := lw_at lw_m14 157 rfl
theorem q3400 : (Jvm.Cond.instanceMethod ({ cls := "PointerAnalyzerModel", name := "offsets", desc := "(III)V" } : Jvm.MethodName)) ∈ lw_all := lw_g (lw_at lw_m14 158 rfl) rfl
theorem q3401 : (Jvm.Cond.code ({ cls := "PointerAnalyzerModel", name := "offsets", desc := "(III)V" } : Jvm.MethodName) prog_21_method_92_code (5 : Nat) (Option.none : Option Jvm.ClassFile.FieldType)) ∈ lw_all := lw_g (lw_at lw_m14 159 rfl) rfl
theorem q3403 : (Jvm.Cond.instanceMethod ({ cls := "PointerAnalyzerModel", name := "observed", desc := "(I)J" } : Jvm.MethodName)) ∈ lw_all := lw_g (lw_at lw_m14 161 rfl) rfl
theorem q3404 : (Jvm.Cond.selects "PointerAnalyzerModel" ({ cls := "PointerAnalyzerModel", name := "observed", desc := "(I)J" } : Jvm.MethodName) ({ cls := "PointerAnalyzerModel", name := "observed", desc := "(I)J" } : Jvm.MethodName)) ∈ lw_all := lw_g (lw_at lw_m14 162 rfl) rfl
theorem q3405 : (Jvm.Cond.code ({ cls := "PointerAnalyzerModel", name := "observed", desc := "(I)J" } : Jvm.MethodName) prog_21_method_96_code (2 : Nat) (Option.some Jvm.ClassFile.FieldType.long)) ∈ lw_all := lw_g (lw_at lw_m14 163 rfl) rfl
theorem q3407 : (Jvm.Cond.instanceMethod ({ cls := "PointerAnalyzerModel", name := "fieldObserved", desc := "(II)J" } : Jvm.MethodName)) ∈ lw_all := lw_g (lw_at lw_m14 165 rfl) rfl
theorem q3408 : (Jvm.Cond.selects "PointerAnalyzerModel" ({ cls := "PointerAnalyzerModel", name := "fieldObserved", desc := "(II)J" } : Jvm.MethodName) ({ cls := "PointerAnalyzerModel", name := "fieldObserved", desc := "(II)J" } : Jvm.MethodName)) ∈ lw_all := lw_g (lw_at lw_m14 166 rfl) rfl
theorem q3409 : (Jvm.Cond.code ({ cls := "PointerAnalyzerModel", name := "fieldObserved", desc := "(II)J" } : Jvm.MethodName) prog_21_method_97_code (3 : Nat) (Option.some Jvm.ClassFile.FieldType.long)) ∈ lw_all := lw_g (lw_at lw_m14 167 rfl) rfl
theorem q3411 : (Jvm.Cond.instanceMethod ({ cls := "PointerAnalyzerModel", name := "faults", desc := "()I" } : Jvm.MethodName)) ∈ lw_all := lw_g (lw_at lw_m14 169 rfl) rfl
theorem q3412 : (Jvm.Cond.selects "PointerAnalyzerModel" ({ cls := "PointerAnalyzerModel", name := "faults", desc := "()I" } : Jvm.MethodName) ({ cls := "PointerAnalyzerModel", name := "faults", desc := "()I" } : Jvm.MethodName)) ∈ lw_all := lw_g (lw_at lw_m14 170 rfl) rfl
theorem q3413 : (Jvm.Cond.code ({ cls := "PointerAnalyzerModel", name := "faults", desc := "()I" } : Jvm.MethodName) prog_21_method_98_code (1 : Nat) (Option.some Jvm.ClassFile.FieldType.int)) ∈ lw_all := lw_g (lw_at lw_m14 171 rfl) rfl
theorem q3415 : (Jvm.Cond.instanceMethod ({ cls := "PointerAnalyzerModel", name := "objects", desc := "()I" } : Jvm.MethodName)) ∈ lw_all := lw_g (lw_at lw_m14 173 rfl) rfl
theorem q3416 : (Jvm.Cond.selects "PointerAnalyzerModel" ({ cls := "PointerAnalyzerModel", name := "objects", desc := "()I" } : Jvm.MethodName) ({ cls := "PointerAnalyzerModel", name := "objects", desc := "()I" } : Jvm.MethodName)) ∈ lw_all := lw_g (lw_at lw_m14 174 rfl) rfl
theorem q3417 : (Jvm.Cond.code ({ cls := "PointerAnalyzerModel", name := "objects", desc := "()I" } : Jvm.MethodName) prog_21_method_99_code (1 : Nat) (Option.some Jvm.ClassFile.FieldType.int)) ∈ lw_all := lw_g (lw_at lw_m14 175 rfl) rfl
theorem q3419 : (Jvm.Cond.instanceMethod ({ cls := "PointerAnalyzerModel", name := "precision", desc := "()D" } : Jvm.MethodName)) ∈ lw_all := lw_g (lw_at lw_m14 177 rfl) rfl
theorem q3420 : (Jvm.Cond.selects "PointerAnalyzerModel" ({ cls := "PointerAnalyzerModel", name := "precision", desc := "()D" } : Jvm.MethodName) ({ cls := "PointerAnalyzerModel", name := "precision", desc := "()D" } : Jvm.MethodName)) ∈ lw_all := lw_g (lw_at lw_m14 178 rfl) rfl
theorem q3421 : (Jvm.Cond.code ({ cls := "PointerAnalyzerModel", name := "precision", desc := "()D" } : Jvm.MethodName) prog_21_method_100_code (4 : Nat) (Option.some Jvm.ClassFile.FieldType.double)) ∈ lw_all := lw_g (lw_at lw_m14 179 rfl) rfl
theorem q3423 : (Jvm.Cond.instanceMethod ({ cls := "PointerAnalyzerModel", name := "averageTargets", desc := "()F" } : Jvm.MethodName)) ∈ lw_all := lw_g (lw_at lw_m14 181 rfl) rfl
theorem q3424 : (Jvm.Cond.selects "PointerAnalyzerModel" ({ cls := "PointerAnalyzerModel", name := "averageTargets", desc := "()F" } : Jvm.MethodName) ({ cls := "PointerAnalyzerModel", name := "averageTargets", desc := "()F" } : Jvm.MethodName)) ∈ lw_all := lw_g (lw_at lw_m14 182 rfl) rfl
theorem q3425 : (Jvm.Cond.code ({ cls := "PointerAnalyzerModel", name := "averageTargets", desc := "()F" } : Jvm.MethodName) prog_21_method_101_code (4 : Nat) (Option.some Jvm.ClassFile.FieldType.float)) ∈ lw_all := lw_g (lw_at lw_m14 183 rfl) rfl
theorem q3427 : (Jvm.Cond.instanceMethod ({ cls := "PointerAnalyzerModel", name := "save", desc := "()V" } : Jvm.MethodName)) ∈ lw_all := lw_g (lw_at lw_m14 185 rfl) rfl
theorem q3428 : (Jvm.Cond.selects "PointerAnalyzerModel" ({ cls := "PointerAnalyzerModel", name := "save", desc := "()V" } : Jvm.MethodName) ({ cls := "PointerAnalyzerModel", name := "save", desc := "()V" } : Jvm.MethodName)) ∈ lw_all := lw_g (lw_at lw_m14 186 rfl) rfl
theorem q3429 : (Jvm.Cond.code ({ cls := "PointerAnalyzerModel", name := "save", desc := "()V" } : Jvm.MethodName) prog_21_method_104_code (1 : Nat) (Option.none : Option Jvm.ClassFile.FieldType)) ∈ lw_all := lw_g (lw_at lw_m14 187 rfl) rfl
theorem q3430 : (Jvm.Cond.methodLink "PointerAnalyzerModel" (362 : Nat) ({ cls := "PointerAnalyzerModel", name := "passState", desc := "(Z)V" } : Jvm.MethodName)) ∈ lw_all := lw_g (lw_at lw_m14 188 rfl) rfl
theorem q3431 : (Jvm.Cond.privateMethod ({ cls := "PointerAnalyzerModel", name := "passState", desc := "(Z)V" } : Jvm.MethodName)) ∈ lw_tbl := lw_at lw_m14 189 rfl
theorem q3432 : (Jvm.Cond.instanceMethod ({ cls := "PointerAnalyzerModel", name := "passState", desc := "(Z)V" } : Jvm.MethodName)) ∈ lw_all := lw_g (lw_at lw_m14 190 rfl) rfl
theorem q3433 : (Jvm.Cond.code ({ cls := "PointerAnalyzerModel", name := "passState", desc := "(Z)V" } : Jvm.MethodName) prog_21_method_103_code (3 : Nat) (Option.none : Option Jvm.ClassFile.FieldType)) ∈ lw_all := lw_g (lw_at lw_m14 191 rfl) rfl
theorem q3434 : (Jvm.Cond.methodLink "PointerAnalyzerModel" (356 : Nat) ({ cls := "PointerAnalyzerModel", name := "passes", desc := "(I)I" } : Jvm.MethodName)) ∈ lw_all := lw_g (lw_at lw_m14 192 rfl) rfl
theorem q3435 : (Jvm.Cond.privateMethod ({ cls := "PointerAnalyzerModel", name := "passes", desc := "(I)I" } : Jvm.MethodName)) ∈ lw_tbl := lw_at lw_m14 193 rfl
theorem q3436 : (Jvm.Cond.instanceMethod ({ cls := "PointerAnalyzerModel", name := "passes", desc := "(I)I" } : Jvm.MethodName)) ∈ lw_all := lw_g (lw_at lw_m14 194 rfl) rfl
theorem q3437 : (Jvm.Cond.code ({ cls := "PointerAnalyzerModel", name := "passes", desc := "(I)I" } : Jvm.MethodName) prog_21_method_102_code (3 : Nat) (Option.some Jvm.ClassFile.FieldType.int)) ∈ lw_all := lw_g (lw_at lw_m14 195 rfl) rfl
theorem q3439 : (Jvm.Cond.instanceMethod ({ cls := "PointerAnalyzerModel", name := "restore", desc := "()V" } : Jvm.MethodName)) ∈ lw_all := lw_g (lw_at lw_m14 197 rfl) rfl
theorem q3440 : (Jvm.Cond.selects "PointerAnalyzerModel" ({ cls := "PointerAnalyzerModel", name := "restore", desc := "()V" } : Jvm.MethodName) ({ cls := "PointerAnalyzerModel", name := "restore", desc := "()V" } : Jvm.MethodName)) ∈ lw_all := lw_g (lw_at lw_m14 198 rfl) rfl
theorem q3441 : (Jvm.Cond.code ({ cls := "PointerAnalyzerModel", name := "restore", desc := "()V" } : Jvm.MethodName) prog_21_method_105_code (1 : Nat) (Option.none : Option Jvm.ClassFile.FieldType)) ∈ lw_all := lw_g (lw_at lw_m14 199 rfl) rfl
theorem q3474 : (Jvm.Cond.castable "PointerAnalyzerModel" "java/lang/Object") ∈ lw_tbl := lw_at lw_m14 232 rfl
theorem in_X4 : ∀ w ∈ wsX40, w ∈ lw_all := lw_in wsX40 [2941, 2943, 2945, 2947, 2949, 2951, 2953, 2955, 2957, 2959, 2961, 2963, 2965, 2967, 2969, 2971, 2973, 2975, 2977, 2979, 2981, 2983, 2985, 2987, 2989, 2991, 2993, 2995, 2997, 2999, 3001, 3003, 3005, 3007, 3009, 3011, 3013, 3015, 3017, 3019, 3021, 3023, 3025, 3027, 3029] (by decide +kernel) (by decide +kernel)
