/-! PointerAnalyzer -/
set_option maxRecDepth 100000
def RX1 : String := "PointerAnalyzer"
def TX1 : u_T := fun k => match k with
  | 0 => ("PointerAnalyzer", "program", "LPointerAnalyzer$Program;", false)
  | 1 => ("PointerAnalyzer", "limit", "I", false)
  | 2 => ("PointerAnalyzer", "analysis", "LPointerAnalyzer$Analysis;", false)
  | 3 => ("PointerAnalyzer", "latest", "LPointerAnalyzer$Run;", false)
  | 4 => ("PointerAnalyzer", "text", "[C", true)
  | 5 => ("PointerAnalyzer", "textLength", "I", false)
  | 6 => ("PointerAnalyzer", "fault", "I", false)
  | 7 => ("PointerAnalyzer", "savedProgram", "LPointerAnalyzer$Program;", false)
  | _ => ("PointerAnalyzer", "savedLimit", "I", false)
def tyX1 : Nat → FieldType := fun k => match k with
  | 0 => .object "PointerAnalyzer$Program"
  | 1 => .int
  | 2 => .object "PointerAnalyzer$Analysis"
  | 3 => .object "PointerAnalyzer$Run"
  | 4 => .array .char
  | 5 => .int
  | 6 => .int
  | 7 => .object "PointerAnalyzer$Program"
  | _ => .int
abbrev wsX10 : List Cond := u_ws RX1 TX1 9
theorem nmX1 : ∀ a, a < 9 → ∀ b, b < 9 → a ≠ b → (TX1 a).2.1 ≠ (TX1 b).2.1 := by decide +kernel
theorem tyX1_ok : ∀ k, k < 9 → parseFieldDescriptor (TX1 k).2.2.1 = some (tyX1 k) := by decide +kernel
abbrev cX1_init : ByteArray := prog_1_method_11_code
def yX1_init : MethodName := ⟨RX1, "<init>", "()V"⟩
def dkwX1_init_1 : List UInt8 := [181, 0, 46, 42, 16, 80, 188, 5, 181, 0, 50, 42, 2, 181, 0, 54, 177]
abbrev dktX1_init_1 : List UInt8 := dkwX1_init_1 ++ []
def dkwX1_init_0 : List UInt8 := [42, 183, 0, 35, 42, 187, 0, 38, 89, 183, 0, 40, 3, 187, 0, 20, 89, 183, 0, 41, 182, 0, 42]
abbrev dktX1_init_0 : List UInt8 := dkwX1_init_0 ++ dktX1_init_1
theorem dksX1_init_0 : cX1_init.data.toList.drop 0 = dktX1_init_0 := by decide +kernel
theorem dksX1_init_1 : cX1_init.data.toList.drop 23 = dktX1_init_1 := dk_seg dksX1_init_0 23 rfl rfl
theorem dX1_init_0 : decode cX1_init 0 = .ok (.aload_n 0, 1) := dk_42 (dk_at dksX1_init_0 0 rfl rfl)
theorem dX1_init_1 : decode cX1_init 1 = .ok (.invokespecial 35, 3) := dk_183 0 35 (dk_at dksX1_init_0 1 rfl rfl)
theorem dX1_init_4 : decode cX1_init 4 = .ok (.aload_n 0, 1) := dk_42 (dk_at dksX1_init_0 4 rfl rfl)
theorem dX1_init_5 : decode cX1_init 5 = .ok (.new 38, 3) := dk_187 0 38 (dk_at dksX1_init_0 5 rfl rfl)
theorem dX1_init_8 : decode cX1_init 8 = .ok (.dup, 1) := dk_89 (dk_at dksX1_init_0 8 rfl rfl)
theorem dX1_init_9 : decode cX1_init 9 = .ok (.invokespecial 40, 3) := dk_183 0 40 (dk_at dksX1_init_0 9 rfl rfl)
theorem dX1_init_12 : decode cX1_init 12 = .ok (.iconst 0, 1) := dk_3 (dk_at dksX1_init_0 12 rfl rfl)
theorem dX1_init_13 : decode cX1_init 13 = .ok (.new 20, 3) := dk_187 0 20 (dk_at dksX1_init_0 13 rfl rfl)
theorem dX1_init_16 : decode cX1_init 16 = .ok (.dup, 1) := dk_89 (dk_at dksX1_init_0 16 rfl rfl)
theorem dX1_init_17 : decode cX1_init 17 = .ok (.invokespecial 41, 3) := dk_183 0 41 (dk_at dksX1_init_0 17 rfl rfl)
theorem dX1_init_20 : decode cX1_init 20 = .ok (.invokevirtual 42, 3) := dk_182 0 42 (dk_at dksX1_init_0 20 rfl rfl)
theorem dX1_init_23 : decode cX1_init 23 = .ok (.putfield 46, 3) := dk_181 0 46 (dk_at dksX1_init_1 0 rfl rfl)
theorem dX1_init_26 : decode cX1_init 26 = .ok (.aload_n 0, 1) := dk_42 (dk_at dksX1_init_1 3 rfl rfl)
theorem dX1_init_27 : decode cX1_init 27 = .ok (.bipush 80, 2) := dk_16 80 (dk_at dksX1_init_1 4 rfl rfl)
theorem dX1_init_29 : decode cX1_init 29 = .ok (.newarray .char, 2) := dk_188_5 (dk_at dksX1_init_1 6 rfl rfl)
theorem dX1_init_31 : decode cX1_init 31 = .ok (.putfield 50, 3) := dk_181 0 50 (dk_at dksX1_init_1 8 rfl rfl)
theorem dX1_init_34 : decode cX1_init 34 = .ok (.aload_n 0, 1) := dk_42 (dk_at dksX1_init_1 11 rfl rfl)
theorem dX1_init_35 : decode cX1_init 35 = .ok (.iconst (-1), 1) := dk_2 (dk_at dksX1_init_1 12 rfl rfl)
theorem dX1_init_36 : decode cX1_init 36 = .ok (.putfield 54, 3) := dk_181 0 54 (dk_at dksX1_init_1 13 rfl rfl)
theorem dX1_init_39 : decode cX1_init 39 = .ok (.return_, 1) := dk_177 (dk_at dksX1_init_1 16 rfl rfl)
abbrev cX1_faultPosition : ByteArray := prog_1_method_16_code
def yX1_faultPosition : MethodName := ⟨RX1, "faultPosition", "()I"⟩
theorem dX1_faultPosition_0 : decode cX1_faultPosition 0 = .ok (.aload_n 0, 1) := by decide +kernel
theorem dX1_faultPosition_1 : decode cX1_faultPosition 1 = .ok (.getfield 54, 3) := by decide +kernel
theorem dX1_faultPosition_4 : decode cX1_faultPosition 4 = .ok (.ireturn, 1) := by decide +kernel
abbrev cX1_statementCount : ByteArray := prog_1_method_17_code
def yX1_statementCount : MethodName := ⟨RX1, "statementCount", "()I"⟩
def dkwX1_statementCount_0 : List UInt8 := [42, 180, 0, 46, 180, 0, 120, 182, 0, 19, 172]
abbrev dktX1_statementCount_0 : List UInt8 := dkwX1_statementCount_0 ++ []
theorem dksX1_statementCount_0 : cX1_statementCount.data.toList.drop 0 = dktX1_statementCount_0 := by decide +kernel
theorem dX1_statementCount_0 : decode cX1_statementCount 0 = .ok (.aload_n 0, 1) := dk_42 (dk_at dksX1_statementCount_0 0 rfl rfl)
theorem dX1_statementCount_1 : decode cX1_statementCount 1 = .ok (.getfield 46, 3) := dk_180 0 46 (dk_at dksX1_statementCount_0 1 rfl rfl)
theorem dX1_statementCount_4 : decode cX1_statementCount 4 = .ok (.getfield 120, 3) := dk_180 0 120 (dk_at dksX1_statementCount_0 4 rfl rfl)
theorem dX1_statementCount_7 : decode cX1_statementCount 7 = .ok (.invokevirtual 19, 3) := dk_182 0 19 (dk_at dksX1_statementCount_0 7 rfl rfl)
theorem dX1_statementCount_10 : decode cX1_statementCount 10 = .ok (.ireturn, 1) := dk_172 (dk_at dksX1_statementCount_0 10 rfl rfl)
abbrev cX1_siteCount : ByteArray := prog_1_method_21_code
def yX1_siteCount : MethodName := ⟨RX1, "siteCount", "()I"⟩
def dkwX1_siteCount_0 : List UInt8 := [42, 180, 0, 46, 180, 0, 139, 172]
abbrev dktX1_siteCount_0 : List UInt8 := dkwX1_siteCount_0 ++ []
theorem dksX1_siteCount_0 : cX1_siteCount.data.toList.drop 0 = dktX1_siteCount_0 := by decide +kernel
theorem dX1_siteCount_0 : decode cX1_siteCount 0 = .ok (.aload_n 0, 1) := dk_42 (dk_at dksX1_siteCount_0 0 rfl rfl)
theorem dX1_siteCount_1 : decode cX1_siteCount 1 = .ok (.getfield 46, 3) := dk_180 0 46 (dk_at dksX1_siteCount_0 1 rfl rfl)
theorem dX1_siteCount_4 : decode cX1_siteCount 4 = .ok (.getfield 139, 3) := dk_180 0 139 (dk_at dksX1_siteCount_0 4 rfl rfl)
theorem dX1_siteCount_7 : decode cX1_siteCount 7 = .ok (.ireturn, 1) := dk_172 (dk_at dksX1_siteCount_0 7 rfl rfl)
abbrev cX1_factCount : ByteArray := prog_1_method_32_code
def yX1_factCount : MethodName := ⟨RX1, "factCount", "()I"⟩
def dkwX1_factCount_0 : List UInt8 := [42, 182, 0, 150, 182, 0, 202, 172]
abbrev dktX1_factCount_0 : List UInt8 := dkwX1_factCount_0 ++ []
theorem dksX1_factCount_0 : cX1_factCount.data.toList.drop 0 = dktX1_factCount_0 := by decide +kernel
theorem dX1_factCount_0 : decode cX1_factCount 0 = .ok (.aload_n 0, 1) := dk_42 (dk_at dksX1_factCount_0 0 rfl rfl)
theorem dX1_factCount_1 : decode cX1_factCount 1 = .ok (.invokevirtual 150, 3) := dk_182 0 150 (dk_at dksX1_factCount_0 1 rfl rfl)
theorem dX1_factCount_4 : decode cX1_factCount 4 = .ok (.invokevirtual 202, 3) := dk_182 0 202 (dk_at dksX1_factCount_0 4 rfl rfl)
theorem dX1_factCount_7 : decode cX1_factCount 7 = .ok (.ireturn, 1) := dk_172 (dk_at dksX1_factCount_0 7 rfl rfl)
abbrev cX1_analyze : ByteArray := prog_1_method_23_code
def yX1_analyze : MethodName := ⟨RX1, "analyze", "()LPointerAnalyzer$Analysis;"⟩
def dkwX1_analyze_1 : List UInt8 := [181, 0, 85, 42, 180, 0, 85, 176]
abbrev dktX1_analyze_1 : List UInt8 := dkwX1_analyze_1 ++ []
def dkwX1_analyze_0 : List UInt8 := [42, 180, 0, 85, 199, 0, 22, 42, 187, 0, 145, 89, 42, 180, 0, 46, 42, 180, 0, 142, 183, 0, 147]
abbrev dktX1_analyze_0 : List UInt8 := dkwX1_analyze_0 ++ dktX1_analyze_1
theorem dksX1_analyze_0 : cX1_analyze.data.toList.drop 0 = dktX1_analyze_0 := by decide +kernel
theorem dksX1_analyze_1 : cX1_analyze.data.toList.drop 23 = dktX1_analyze_1 := dk_seg dksX1_analyze_0 23 rfl rfl
theorem dX1_analyze_0 : decode cX1_analyze 0 = .ok (.aload_n 0, 1) := dk_42 (dk_at dksX1_analyze_0 0 rfl rfl)
theorem dX1_analyze_1 : decode cX1_analyze 1 = .ok (.getfield 85, 3) := dk_180 0 85 (dk_at dksX1_analyze_0 1 rfl rfl)
theorem dX1_analyze_4 : decode cX1_analyze 4 = .ok (.ifnonnull 22, 3) := dk_199 0 22 (dk_at dksX1_analyze_0 4 rfl rfl)
theorem dX1_analyze_7 : decode cX1_analyze 7 = .ok (.aload_n 0, 1) := dk_42 (dk_at dksX1_analyze_0 7 rfl rfl)
theorem dX1_analyze_8 : decode cX1_analyze 8 = .ok (.new 145, 3) := dk_187 0 145 (dk_at dksX1_analyze_0 8 rfl rfl)
theorem dX1_analyze_11 : decode cX1_analyze 11 = .ok (.dup, 1) := dk_89 (dk_at dksX1_analyze_0 11 rfl rfl)
theorem dX1_analyze_12 : decode cX1_analyze 12 = .ok (.aload_n 0, 1) := dk_42 (dk_at dksX1_analyze_0 12 rfl rfl)
theorem dX1_analyze_13 : decode cX1_analyze 13 = .ok (.getfield 46, 3) := dk_180 0 46 (dk_at dksX1_analyze_0 13 rfl rfl)
theorem dX1_analyze_16 : decode cX1_analyze 16 = .ok (.aload_n 0, 1) := dk_42 (dk_at dksX1_analyze_0 16 rfl rfl)
theorem dX1_analyze_17 : decode cX1_analyze 17 = .ok (.getfield 142, 3) := dk_180 0 142 (dk_at dksX1_analyze_0 17 rfl rfl)
theorem dX1_analyze_20 : decode cX1_analyze 20 = .ok (.invokespecial 147, 3) := dk_183 0 147 (dk_at dksX1_analyze_0 20 rfl rfl)
theorem dX1_analyze_23 : decode cX1_analyze 23 = .ok (.putfield 85, 3) := dk_181 0 85 (dk_at dksX1_analyze_1 0 rfl rfl)
theorem dX1_analyze_26 : decode cX1_analyze 26 = .ok (.aload_n 0, 1) := dk_42 (dk_at dksX1_analyze_1 3 rfl rfl)
theorem dX1_analyze_27 : decode cX1_analyze 27 = .ok (.getfield 85, 3) := dk_180 0 85 (dk_at dksX1_analyze_1 4 rfl rfl)
theorem dX1_analyze_30 : decode cX1_analyze 30 = .ok (.areturn, 1) := dk_176 (dk_at dksX1_analyze_1 7 rfl rfl)
abbrev cX1_local : ByteArray := prog_1_method_7_code
def yX1_local : MethodName := ⟨RX1, "local", "(II)I"⟩
def dkwX1_local_0 : List UInt8 := [7, 7, 26, 104, 96, 27, 96, 172]
abbrev dktX1_local_0 : List UInt8 := dkwX1_local_0 ++ []
theorem dksX1_local_0 : cX1_local.data.toList.drop 0 = dktX1_local_0 := by decide +kernel
theorem dX1_local_0 : decode cX1_local 0 = .ok (.iconst 4, 1) := dk_7 (dk_at dksX1_local_0 0 rfl rfl)
theorem dX1_local_1 : decode cX1_local 1 = .ok (.iconst 4, 1) := dk_7 (dk_at dksX1_local_0 1 rfl rfl)
theorem dX1_local_2 : decode cX1_local 2 = .ok (.iload_n 0, 1) := dk_26 (dk_at dksX1_local_0 2 rfl rfl)
theorem dX1_local_3 : decode cX1_local 3 = .ok (.imul, 1) := dk_104 (dk_at dksX1_local_0 3 rfl rfl)
theorem dX1_local_4 : decode cX1_local 4 = .ok (.iadd, 1) := dk_96 (dk_at dksX1_local_0 4 rfl rfl)
theorem dX1_local_5 : decode cX1_local 5 = .ok (.iload_n 1, 1) := dk_27 (dk_at dksX1_local_0 5 rfl rfl)
theorem dX1_local_6 : decode cX1_local 6 = .ok (.iadd, 1) := dk_96 (dk_at dksX1_local_0 6 rfl rfl)
theorem dX1_local_7 : decode cX1_local 7 = .ok (.ireturn, 1) := dk_172 (dk_at dksX1_local_0 7 rfl rfl)
abbrev cX1_ownerOf : ByteArray := prog_1_method_8_code
def yX1_ownerOf : MethodName := ⟨RX1, "ownerOf", "(I)I"⟩
def dkwX1_ownerOf_0 : List UInt8 := [26, 7, 162, 0, 7, 2, 167, 0, 8, 26, 7, 100, 7, 108, 172]
abbrev dktX1_ownerOf_0 : List UInt8 := dkwX1_ownerOf_0 ++ []
theorem dksX1_ownerOf_0 : cX1_ownerOf.data.toList.drop 0 = dktX1_ownerOf_0 := by decide +kernel
theorem dX1_ownerOf_0 : decode cX1_ownerOf 0 = .ok (.iload_n 0, 1) := dk_26 (dk_at dksX1_ownerOf_0 0 rfl rfl)
theorem dX1_ownerOf_1 : decode cX1_ownerOf 1 = .ok (.iconst 4, 1) := dk_7 (dk_at dksX1_ownerOf_0 1 rfl rfl)
theorem dX1_ownerOf_2 : decode cX1_ownerOf 2 = .ok (.if_icmp .ge 7, 3) := dk_162 0 7 (dk_at dksX1_ownerOf_0 2 rfl rfl)
theorem dX1_ownerOf_5 : decode cX1_ownerOf 5 = .ok (.iconst (-1), 1) := dk_2 (dk_at dksX1_ownerOf_0 5 rfl rfl)
theorem dX1_ownerOf_6 : decode cX1_ownerOf 6 = .ok (.goto 8, 3) := dk_167 0 8 (dk_at dksX1_ownerOf_0 6 rfl rfl)
theorem dX1_ownerOf_9 : decode cX1_ownerOf 9 = .ok (.iload_n 0, 1) := dk_26 (dk_at dksX1_ownerOf_0 9 rfl rfl)
theorem dX1_ownerOf_10 : decode cX1_ownerOf 10 = .ok (.iconst 4, 1) := dk_7 (dk_at dksX1_ownerOf_0 10 rfl rfl)
theorem dX1_ownerOf_11 : decode cX1_ownerOf 11 = .ok (.isub, 1) := dk_100 (dk_at dksX1_ownerOf_0 11 rfl rfl)
theorem dX1_ownerOf_12 : decode cX1_ownerOf 12 = .ok (.iconst 4, 1) := dk_7 (dk_at dksX1_ownerOf_0 12 rfl rfl)
theorem dX1_ownerOf_13 : decode cX1_ownerOf 13 = .ok (.idiv, 1) := dk_108 (dk_at dksX1_ownerOf_0 13 rfl rfl)
theorem dX1_ownerOf_14 : decode cX1_ownerOf 14 = .ok (.ireturn, 1) := dk_172 (dk_at dksX1_ownerOf_0 14 rfl rfl)
abbrev cX1_escapingSites : ByteArray := prog_1_method_36_code
def yX1_escapingSites : MethodName := ⟨RX1, "escapingSites", "()I"⟩
def dkwX1_escapingSites_3 : List UInt8 := [167, 255, 213, 29, 172]
abbrev dktX1_escapingSites_3 : List UInt8 := dkwX1_escapingSites_3 ++ []
def dkwX1_escapingSites_2 : List UInt8 := [125, 20, 0, 216, 127, 9, 148, 153, 0, 10, 4, 21, 4, 120, 167, 0, 4, 3, 128, 62, 132, 4, 1]
abbrev dktX1_escapingSites_2 : List UInt8 := dkwX1_escapingSites_2 ++ dktX1_escapingSites_3
def dkwX1_escapingSites_1 : List UInt8 := [62, 3, 54, 4, 21, 4, 42, 180, 0, 46, 180, 0, 139, 162, 0, 37, 29, 31, 21, 4, 3, 184, 0, 195]
abbrev dktX1_escapingSites_1 : List UInt8 := dkwX1_escapingSites_1 ++ dktX1_escapingSites_2
def dkwX1_escapingSites_0 : List UInt8 := [9, 64, 3, 62, 29, 7, 162, 0, 17, 31, 42, 29, 182, 0, 213, 129, 64, 132, 3, 1, 167, 255, 240, 3]
abbrev dktX1_escapingSites_0 : List UInt8 := dkwX1_escapingSites_0 ++ dktX1_escapingSites_1
theorem dksX1_escapingSites_0 : cX1_escapingSites.data.toList.drop 0 = dktX1_escapingSites_0 := by decide +kernel
theorem dksX1_escapingSites_1 : cX1_escapingSites.data.toList.drop 24 = dktX1_escapingSites_1 := dk_seg dksX1_escapingSites_0 24 rfl rfl
theorem dksX1_escapingSites_2 : cX1_escapingSites.data.toList.drop 48 = dktX1_escapingSites_2 := dk_seg dksX1_escapingSites_1 24 rfl rfl
theorem dksX1_escapingSites_3 : cX1_escapingSites.data.toList.drop 71 = dktX1_escapingSites_3 := dk_seg dksX1_escapingSites_2 23 rfl rfl
theorem dX1_escapingSites_0 : decode cX1_escapingSites 0 = .ok (.lconst 0, 1) := dk_9 (dk_at dksX1_escapingSites_0 0 rfl rfl)
theorem dX1_escapingSites_1 : decode cX1_escapingSites 1 = .ok (.lstore_n 1, 1) := dk_64 (dk_at dksX1_escapingSites_0 1 rfl rfl)
theorem dX1_escapingSites_2 : decode cX1_escapingSites 2 = .ok (.iconst 0, 1) := dk_3 (dk_at dksX1_escapingSites_0 2 rfl rfl)
theorem dX1_escapingSites_3 : decode cX1_escapingSites 3 = .ok (.istore_n 3, 1) := dk_62 (dk_at dksX1_escapingSites_0 3 rfl rfl)
theorem dX1_escapingSites_4 : decode cX1_escapingSites 4 = .ok (.iload_n 3, 1) := dk_29 (dk_at dksX1_escapingSites_0 4 rfl rfl)
theorem dX1_escapingSites_5 : decode cX1_escapingSites 5 = .ok (.iconst 4, 1) := dk_7 (dk_at dksX1_escapingSites_0 5 rfl rfl)
theorem dX1_escapingSites_6 : decode cX1_escapingSites 6 = .ok (.if_icmp .ge 17, 3) := dk_162 0 17 (dk_at dksX1_escapingSites_0 6 rfl rfl)
theorem dX1_escapingSites_9 : decode cX1_escapingSites 9 = .ok (.lload_n 1, 1) := dk_31 (dk_at dksX1_escapingSites_0 9 rfl rfl)
theorem dX1_escapingSites_10 : decode cX1_escapingSites 10 = .ok (.aload_n 0, 1) := dk_42 (dk_at dksX1_escapingSites_0 10 rfl rfl)
theorem dX1_escapingSites_11 : decode cX1_escapingSites 11 = .ok (.iload_n 3, 1) := dk_29 (dk_at dksX1_escapingSites_0 11 rfl rfl)
theorem dX1_escapingSites_12 : decode cX1_escapingSites 12 = .ok (.invokevirtual 213, 3) := dk_182 0 213 (dk_at dksX1_escapingSites_0 12 rfl rfl)
theorem dX1_escapingSites_15 : decode cX1_escapingSites 15 = .ok (.lor, 1) := dk_129 (dk_at dksX1_escapingSites_0 15 rfl rfl)
theorem dX1_escapingSites_16 : decode cX1_escapingSites 16 = .ok (.lstore_n 1, 1) := dk_64 (dk_at dksX1_escapingSites_0 16 rfl rfl)
theorem dX1_escapingSites_17 : decode cX1_escapingSites 17 = .ok (.iinc 3 1, 3) := dk_132 3 1 (dk_at dksX1_escapingSites_0 17 rfl rfl)
theorem dX1_escapingSites_20 : decode cX1_escapingSites 20 = .ok (.goto (-16), 3) := dk_167 255 240 (dk_at dksX1_escapingSites_0 20 rfl rfl)
theorem dX1_escapingSites_23 : decode cX1_escapingSites 23 = .ok (.iconst 0, 1) := dk_3 (dk_at dksX1_escapingSites_0 23 rfl rfl)
theorem dX1_escapingSites_24 : decode cX1_escapingSites 24 = .ok (.istore_n 3, 1) := dk_62 (dk_at dksX1_escapingSites_1 0 rfl rfl)
theorem dX1_escapingSites_25 : decode cX1_escapingSites 25 = .ok (.iconst 0, 1) := dk_3 (dk_at dksX1_escapingSites_1 1 rfl rfl)
theorem dX1_escapingSites_26 : decode cX1_escapingSites 26 = .ok (.istore 4, 2) := dk_54 4 (dk_at dksX1_escapingSites_1 2 rfl rfl)
theorem dX1_escapingSites_28 : decode cX1_escapingSites 28 = .ok (.iload 4, 2) := dk_21 4 (dk_at dksX1_escapingSites_1 4 rfl rfl)
theorem dX1_escapingSites_30 : decode cX1_escapingSites 30 = .ok (.aload_n 0, 1) := dk_42 (dk_at dksX1_escapingSites_1 6 rfl rfl)
theorem dX1_escapingSites_31 : decode cX1_escapingSites 31 = .ok (.getfield 46, 3) := dk_180 0 46 (dk_at dksX1_escapingSites_1 7 rfl rfl)
theorem dX1_escapingSites_34 : decode cX1_escapingSites 34 = .ok (.getfield 139, 3) := dk_180 0 139 (dk_at dksX1_escapingSites_1 10 rfl rfl)
theorem dX1_escapingSites_37 : decode cX1_escapingSites 37 = .ok (.if_icmp .ge 37, 3) := dk_162 0 37 (dk_at dksX1_escapingSites_1 13 rfl rfl)
theorem dX1_escapingSites_40 : decode cX1_escapingSites 40 = .ok (.iload_n 3, 1) := dk_29 (dk_at dksX1_escapingSites_1 16 rfl rfl)
theorem dX1_escapingSites_41 : decode cX1_escapingSites 41 = .ok (.lload_n 1, 1) := dk_31 (dk_at dksX1_escapingSites_1 17 rfl rfl)
theorem dX1_escapingSites_42 : decode cX1_escapingSites 42 = .ok (.iload 4, 2) := dk_21 4 (dk_at dksX1_escapingSites_1 18 rfl rfl)
theorem dX1_escapingSites_44 : decode cX1_escapingSites 44 = .ok (.iconst 0, 1) := dk_3 (dk_at dksX1_escapingSites_1 20 rfl rfl)
theorem dX1_escapingSites_45 : decode cX1_escapingSites 45 = .ok (.invokestatic 195, 3) := dk_184 0 195 (dk_at dksX1_escapingSites_1 21 rfl rfl)
theorem dX1_escapingSites_48 : decode cX1_escapingSites 48 = .ok (.lushr, 1) := dk_125 (dk_at dksX1_escapingSites_2 0 rfl rfl)
theorem dX1_escapingSites_49 : decode cX1_escapingSites 49 = .ok (.ldc2_w 216, 3) := dk_20 0 216 (dk_at dksX1_escapingSites_2 1 rfl rfl)
theorem dX1_escapingSites_52 : decode cX1_escapingSites 52 = .ok (.land, 1) := dk_127 (dk_at dksX1_escapingSites_2 4 rfl rfl)
theorem dX1_escapingSites_53 : decode cX1_escapingSites 53 = .ok (.lconst 0, 1) := dk_9 (dk_at dksX1_escapingSites_2 5 rfl rfl)
theorem dX1_escapingSites_54 : decode cX1_escapingSites 54 = .ok (.lcmp, 1) := dk_148 (dk_at dksX1_escapingSites_2 6 rfl rfl)
theorem dX1_escapingSites_55 : decode cX1_escapingSites 55 = .ok (.ifCond .eq 10, 3) := dk_153 0 10 (dk_at dksX1_escapingSites_2 7 rfl rfl)
theorem dX1_escapingSites_58 : decode cX1_escapingSites 58 = .ok (.iconst 1, 1) := dk_4 (dk_at dksX1_escapingSites_2 10 rfl rfl)
theorem dX1_escapingSites_59 : decode cX1_escapingSites 59 = .ok (.iload 4, 2) := dk_21 4 (dk_at dksX1_escapingSites_2 11 rfl rfl)
theorem dX1_escapingSites_61 : decode cX1_escapingSites 61 = .ok (.ishl, 1) := dk_120 (dk_at dksX1_escapingSites_2 13 rfl rfl)
theorem dX1_escapingSites_62 : decode cX1_escapingSites 62 = .ok (.goto 4, 3) := dk_167 0 4 (dk_at dksX1_escapingSites_2 14 rfl rfl)
theorem dX1_escapingSites_65 : decode cX1_escapingSites 65 = .ok (.iconst 0, 1) := dk_3 (dk_at dksX1_escapingSites_2 17 rfl rfl)
theorem dX1_escapingSites_66 : decode cX1_escapingSites 66 = .ok (.ior, 1) := dk_128 (dk_at dksX1_escapingSites_2 18 rfl rfl)
theorem dX1_escapingSites_67 : decode cX1_escapingSites 67 = .ok (.istore_n 3, 1) := dk_62 (dk_at dksX1_escapingSites_2 19 rfl rfl)
theorem dX1_escapingSites_68 : decode cX1_escapingSites 68 = .ok (.iinc 4 1, 3) := dk_132 4 1 (dk_at dksX1_escapingSites_2 20 rfl rfl)
theorem dX1_escapingSites_71 : decode cX1_escapingSites 71 = .ok (.goto (-43), 3) := dk_167 255 213 (dk_at dksX1_escapingSites_3 0 rfl rfl)
theorem dX1_escapingSites_74 : decode cX1_escapingSites 74 = .ok (.iload_n 3, 1) := dk_29 (dk_at dksX1_escapingSites_3 3 rfl rfl)
theorem dX1_escapingSites_75 : decode cX1_escapingSites 75 = .ok (.ireturn, 1) := dk_172 (dk_at dksX1_escapingSites_3 4 rfl rfl)
abbrev cX1_reachFrom : ByteArray := prog_1_method_34_code
def yX1_reachFrom : MethodName := ⟨RX1, "reachFrom", "(I)J"⟩
def dkwX1_reachFrom_2 : List UInt8 := [21, 6, 182, 0, 180, 129, 65, 167, 255, 215, 32, 173]
abbrev dktX1_reachFrom_2 : List UInt8 := dkwX1_reachFrom_2 ++ []
def dkwX1_reachFrom_1 : List UInt8 := [20, 0, 205, 131, 127, 184, 0, 207, 54, 6, 22, 4, 10, 21, 6, 121, 129, 55, 4, 32, 42, 182, 0, 150]
abbrev dktX1_reachFrom_1 : List UInt8 := dkwX1_reachFrom_1 ++ dktX1_reachFrom_2
def dkwX1_reachFrom_0 : List UInt8 := [42, 182, 0, 150, 27, 182, 0, 180, 65, 9, 55, 4, 32, 22, 4, 148, 153, 0, 40, 32, 22, 4]
abbrev dktX1_reachFrom_0 : List UInt8 := dkwX1_reachFrom_0 ++ dktX1_reachFrom_1
theorem dksX1_reachFrom_0 : cX1_reachFrom.data.toList.drop 0 = dktX1_reachFrom_0 := by decide +kernel
theorem dksX1_reachFrom_1 : cX1_reachFrom.data.toList.drop 22 = dktX1_reachFrom_1 := dk_seg dksX1_reachFrom_0 22 rfl rfl
theorem dksX1_reachFrom_2 : cX1_reachFrom.data.toList.drop 46 = dktX1_reachFrom_2 := dk_seg dksX1_reachFrom_1 24 rfl rfl
theorem dX1_reachFrom_0 : decode cX1_reachFrom 0 = .ok (.aload_n 0, 1) := dk_42 (dk_at dksX1_reachFrom_0 0 rfl rfl)
theorem dX1_reachFrom_1 : decode cX1_reachFrom 1 = .ok (.invokevirtual 150, 3) := dk_182 0 150 (dk_at dksX1_reachFrom_0 1 rfl rfl)
theorem dX1_reachFrom_4 : decode cX1_reachFrom 4 = .ok (.iload_n 1, 1) := dk_27 (dk_at dksX1_reachFrom_0 4 rfl rfl)
theorem dX1_reachFrom_5 : decode cX1_reachFrom 5 = .ok (.invokevirtual 180, 3) := dk_182 0 180 (dk_at dksX1_reachFrom_0 5 rfl rfl)
theorem dX1_reachFrom_8 : decode cX1_reachFrom 8 = .ok (.lstore_n 2, 1) := dk_65 (dk_at dksX1_reachFrom_0 8 rfl rfl)
theorem dX1_reachFrom_9 : decode cX1_reachFrom 9 = .ok (.lconst 0, 1) := dk_9 (dk_at dksX1_reachFrom_0 9 rfl rfl)
theorem dX1_reachFrom_10 : decode cX1_reachFrom 10 = .ok (.lstore 4, 2) := dk_55 4 (dk_at dksX1_reachFrom_0 10 rfl rfl)
theorem dX1_reachFrom_12 : decode cX1_reachFrom 12 = .ok (.lload_n 2, 1) := dk_32 (dk_at dksX1_reachFrom_0 12 rfl rfl)
theorem dX1_reachFrom_13 : decode cX1_reachFrom 13 = .ok (.lload 4, 2) := dk_22 4 (dk_at dksX1_reachFrom_0 13 rfl rfl)
theorem dX1_reachFrom_15 : decode cX1_reachFrom 15 = .ok (.lcmp, 1) := dk_148 (dk_at dksX1_reachFrom_0 15 rfl rfl)
theorem dX1_reachFrom_16 : decode cX1_reachFrom 16 = .ok (.ifCond .eq 40, 3) := dk_153 0 40 (dk_at dksX1_reachFrom_0 16 rfl rfl)
theorem dX1_reachFrom_19 : decode cX1_reachFrom 19 = .ok (.lload_n 2, 1) := dk_32 (dk_at dksX1_reachFrom_0 19 rfl rfl)
theorem dX1_reachFrom_20 : decode cX1_reachFrom 20 = .ok (.lload 4, 2) := dk_22 4 (dk_at dksX1_reachFrom_0 20 rfl rfl)
theorem dX1_reachFrom_22 : decode cX1_reachFrom 22 = .ok (.ldc2_w 205, 3) := dk_20 0 205 (dk_at dksX1_reachFrom_1 0 rfl rfl)
theorem dX1_reachFrom_25 : decode cX1_reachFrom 25 = .ok (.lxor, 1) := dk_131 (dk_at dksX1_reachFrom_1 3 rfl rfl)
theorem dX1_reachFrom_26 : decode cX1_reachFrom 26 = .ok (.land, 1) := dk_127 (dk_at dksX1_reachFrom_1 4 rfl rfl)
theorem dX1_reachFrom_27 : decode cX1_reachFrom 27 = .ok (.invokestatic 207, 3) := dk_184 0 207 (dk_at dksX1_reachFrom_1 5 rfl rfl)
theorem dX1_reachFrom_30 : decode cX1_reachFrom 30 = .ok (.istore 6, 2) := dk_54 6 (dk_at dksX1_reachFrom_1 8 rfl rfl)
theorem dX1_reachFrom_32 : decode cX1_reachFrom 32 = .ok (.lload 4, 2) := dk_22 4 (dk_at dksX1_reachFrom_1 10 rfl rfl)
theorem dX1_reachFrom_34 : decode cX1_reachFrom 34 = .ok (.lconst 1, 1) := dk_10 (dk_at dksX1_reachFrom_1 12 rfl rfl)
theorem dX1_reachFrom_35 : decode cX1_reachFrom 35 = .ok (.iload 6, 2) := dk_21 6 (dk_at dksX1_reachFrom_1 13 rfl rfl)
theorem dX1_reachFrom_37 : decode cX1_reachFrom 37 = .ok (.lshl, 1) := dk_121 (dk_at dksX1_reachFrom_1 15 rfl rfl)
theorem dX1_reachFrom_38 : decode cX1_reachFrom 38 = .ok (.lor, 1) := dk_129 (dk_at dksX1_reachFrom_1 16 rfl rfl)
theorem dX1_reachFrom_39 : decode cX1_reachFrom 39 = .ok (.lstore 4, 2) := dk_55 4 (dk_at dksX1_reachFrom_1 17 rfl rfl)
theorem dX1_reachFrom_41 : decode cX1_reachFrom 41 = .ok (.lload_n 2, 1) := dk_32 (dk_at dksX1_reachFrom_1 19 rfl rfl)
theorem dX1_reachFrom_42 : decode cX1_reachFrom 42 = .ok (.aload_n 0, 1) := dk_42 (dk_at dksX1_reachFrom_1 20 rfl rfl)
theorem dX1_reachFrom_43 : decode cX1_reachFrom 43 = .ok (.invokevirtual 150, 3) := dk_182 0 150 (dk_at dksX1_reachFrom_1 21 rfl rfl)
theorem dX1_reachFrom_46 : decode cX1_reachFrom 46 = .ok (.iload 6, 2) := dk_21 6 (dk_at dksX1_reachFrom_2 0 rfl rfl)
theorem dX1_reachFrom_48 : decode cX1_reachFrom 48 = .ok (.invokevirtual 180, 3) := dk_182 0 180 (dk_at dksX1_reachFrom_2 2 rfl rfl)
theorem dX1_reachFrom_51 : decode cX1_reachFrom 51 = .ok (.lor, 1) := dk_129 (dk_at dksX1_reachFrom_2 5 rfl rfl)
theorem dX1_reachFrom_52 : decode cX1_reachFrom 52 = .ok (.lstore_n 2, 1) := dk_65 (dk_at dksX1_reachFrom_2 6 rfl rfl)
theorem dX1_reachFrom_53 : decode cX1_reachFrom 53 = .ok (.goto (-41), 3) := dk_167 255 215 (dk_at dksX1_reachFrom_2 7 rfl rfl)
theorem dX1_reachFrom_56 : decode cX1_reachFrom 56 = .ok (.lload_n 2, 1) := dk_32 (dk_at dksX1_reachFrom_2 10 rfl rfl)
theorem dX1_reachFrom_57 : decode cX1_reachFrom 57 = .ok (.lreturn, 1) := dk_173 (dk_at dksX1_reachFrom_2 11 rfl rfl)
abbrev cX1_fieldCode : ByteArray := prog_1_method_9_code
def yX1_fieldCode : MethodName := ⟨RX1, "fieldCode", "(II)I"⟩
def dkwX1_fieldCode_0 : List UInt8 := [16, 20, 6, 26, 104, 96, 27, 96, 172]
abbrev dktX1_fieldCode_0 : List UInt8 := dkwX1_fieldCode_0 ++ []
theorem dksX1_fieldCode_0 : cX1_fieldCode.data.toList.drop 0 = dktX1_fieldCode_0 := by decide +kernel
theorem dX1_fieldCode_0 : decode cX1_fieldCode 0 = .ok (.bipush 20, 2) := dk_16 20 (dk_at dksX1_fieldCode_0 0 rfl rfl)
theorem dX1_fieldCode_2 : decode cX1_fieldCode 2 = .ok (.iconst 3, 1) := dk_6 (dk_at dksX1_fieldCode_0 2 rfl rfl)
theorem dX1_fieldCode_3 : decode cX1_fieldCode 3 = .ok (.iload_n 0, 1) := dk_26 (dk_at dksX1_fieldCode_0 3 rfl rfl)
theorem dX1_fieldCode_4 : decode cX1_fieldCode 4 = .ok (.imul, 1) := dk_104 (dk_at dksX1_fieldCode_0 4 rfl rfl)
theorem dX1_fieldCode_5 : decode cX1_fieldCode 5 = .ok (.iadd, 1) := dk_96 (dk_at dksX1_fieldCode_0 5 rfl rfl)
theorem dX1_fieldCode_6 : decode cX1_fieldCode 6 = .ok (.iload_n 1, 1) := dk_27 (dk_at dksX1_fieldCode_0 6 rfl rfl)
theorem dX1_fieldCode_7 : decode cX1_fieldCode 7 = .ok (.iadd, 1) := dk_96 (dk_at dksX1_fieldCode_0 7 rfl rfl)
theorem dX1_fieldCode_8 : decode cX1_fieldCode 8 = .ok (.ireturn, 1) := dk_172 (dk_at dksX1_fieldCode_0 8 rfl rfl)
abbrev cX1_roundCount : ByteArray := prog_1_method_41_code
def yX1_roundCount : MethodName := ⟨RX1, "roundCount", "()I"⟩
def dkwX1_roundCount_0 : List UInt8 := [42, 182, 0, 227, 180, 0, 245, 172]
abbrev dktX1_roundCount_0 : List UInt8 := dkwX1_roundCount_0 ++ []
theorem dksX1_roundCount_0 : cX1_roundCount.data.toList.drop 0 = dktX1_roundCount_0 := by decide +kernel
theorem dX1_roundCount_0 : decode cX1_roundCount 0 = .ok (.aload_n 0, 1) := dk_42 (dk_at dksX1_roundCount_0 0 rfl rfl)
theorem dX1_roundCount_1 : decode cX1_roundCount 1 = .ok (.invokevirtual 227, 3) := dk_182 0 227 (dk_at dksX1_roundCount_0 1 rfl rfl)
theorem dX1_roundCount_4 : decode cX1_roundCount 4 = .ok (.getfield 245, 3) := dk_180 0 245 (dk_at dksX1_roundCount_0 4 rfl rfl)
theorem dX1_roundCount_7 : decode cX1_roundCount 7 = .ok (.ireturn, 1) := dk_172 (dk_at dksX1_roundCount_0 7 rfl rfl)
abbrev cX1_findRanks : ByteArray := prog_1_method_37_code
def yX1_findRanks : MethodName := ⟨RX1, "findRanks", "()LPointerAnalyzer$Ranks;"⟩
def dkwX1_findRanks_1 : List UInt8 := [183, 0, 224, 176]
abbrev dktX1_findRanks_1 : List UInt8 := dkwX1_findRanks_1 ++ []
def dkwX1_findRanks_0 : List UInt8 := [42, 180, 0, 46, 3, 182, 0, 218, 76, 43, 3, 4, 84, 187, 0, 222, 89, 42, 180, 0, 46, 43]
abbrev dktX1_findRanks_0 : List UInt8 := dkwX1_findRanks_0 ++ dktX1_findRanks_1
theorem dksX1_findRanks_0 : cX1_findRanks.data.toList.drop 0 = dktX1_findRanks_0 := by decide +kernel
theorem dksX1_findRanks_1 : cX1_findRanks.data.toList.drop 22 = dktX1_findRanks_1 := dk_seg dksX1_findRanks_0 22 rfl rfl
theorem dX1_findRanks_0 : decode cX1_findRanks 0 = .ok (.aload_n 0, 1) := dk_42 (dk_at dksX1_findRanks_0 0 rfl rfl)
theorem dX1_findRanks_1 : decode cX1_findRanks 1 = .ok (.getfield 46, 3) := dk_180 0 46 (dk_at dksX1_findRanks_0 1 rfl rfl)
theorem dX1_findRanks_4 : decode cX1_findRanks 4 = .ok (.iconst 0, 1) := dk_3 (dk_at dksX1_findRanks_0 4 rfl rfl)
theorem dX1_findRanks_5 : decode cX1_findRanks 5 = .ok (.invokevirtual 218, 3) := dk_182 0 218 (dk_at dksX1_findRanks_0 5 rfl rfl)
theorem dX1_findRanks_8 : decode cX1_findRanks 8 = .ok (.astore_n 1, 1) := dk_76 (dk_at dksX1_findRanks_0 8 rfl rfl)
theorem dX1_findRanks_9 : decode cX1_findRanks 9 = .ok (.aload_n 1, 1) := dk_43 (dk_at dksX1_findRanks_0 9 rfl rfl)
theorem dX1_findRanks_10 : decode cX1_findRanks 10 = .ok (.iconst 0, 1) := dk_3 (dk_at dksX1_findRanks_0 10 rfl rfl)
theorem dX1_findRanks_11 : decode cX1_findRanks 11 = .ok (.iconst 1, 1) := dk_4 (dk_at dksX1_findRanks_0 11 rfl rfl)
theorem dX1_findRanks_12 : decode cX1_findRanks 12 = .ok (.bastore, 1) := dk_84 (dk_at dksX1_findRanks_0 12 rfl rfl)
theorem dX1_findRanks_13 : decode cX1_findRanks 13 = .ok (.new 222, 3) := dk_187 0 222 (dk_at dksX1_findRanks_0 13 rfl rfl)
theorem dX1_findRanks_16 : decode cX1_findRanks 16 = .ok (.dup, 1) := dk_89 (dk_at dksX1_findRanks_0 16 rfl rfl)
theorem dX1_findRanks_17 : decode cX1_findRanks 17 = .ok (.aload_n 0, 1) := dk_42 (dk_at dksX1_findRanks_0 17 rfl rfl)
theorem dX1_findRanks_18 : decode cX1_findRanks 18 = .ok (.getfield 46, 3) := dk_180 0 46 (dk_at dksX1_findRanks_0 18 rfl rfl)
theorem dX1_findRanks_21 : decode cX1_findRanks 21 = .ok (.aload_n 1, 1) := dk_43 (dk_at dksX1_findRanks_0 21 rfl rfl)
theorem dX1_findRanks_22 : decode cX1_findRanks 22 = .ok (.invokespecial 224, 3) := dk_183 0 224 (dk_at dksX1_findRanks_1 0 rfl rfl)
theorem dX1_findRanks_25 : decode cX1_findRanks 25 = .ok (.areturn, 1) := dk_176 (dk_at dksX1_findRanks_1 3 rfl rfl)
abbrev cX1_unifiedClasses : ByteArray := prog_1_method_44_code
def yX1_unifiedClasses : MethodName := ⟨RX1, "unifiedClasses", "()I"⟩
def dkwX1_unifiedClasses_0 : List UInt8 := [187, 0, 248, 89, 42, 180, 0, 46, 183, 0, 250, 182, 1, 9, 172]
abbrev dktX1_unifiedClasses_0 : List UInt8 := dkwX1_unifiedClasses_0 ++ []
theorem dksX1_unifiedClasses_0 : cX1_unifiedClasses.data.toList.drop 0 = dktX1_unifiedClasses_0 := by decide +kernel
theorem dX1_unifiedClasses_0 : decode cX1_unifiedClasses 0 = .ok (.new 248, 3) := dk_187 0 248 (dk_at dksX1_unifiedClasses_0 0 rfl rfl)
theorem dX1_unifiedClasses_3 : decode cX1_unifiedClasses 3 = .ok (.dup, 1) := dk_89 (dk_at dksX1_unifiedClasses_0 3 rfl rfl)
theorem dX1_unifiedClasses_4 : decode cX1_unifiedClasses 4 = .ok (.aload_n 0, 1) := dk_42 (dk_at dksX1_unifiedClasses_0 4 rfl rfl)
theorem dX1_unifiedClasses_5 : decode cX1_unifiedClasses 5 = .ok (.getfield 46, 3) := dk_180 0 46 (dk_at dksX1_unifiedClasses_0 5 rfl rfl)
theorem dX1_unifiedClasses_8 : decode cX1_unifiedClasses 8 = .ok (.invokespecial 250, 3) := dk_183 0 250 (dk_at dksX1_unifiedClasses_0 8 rfl rfl)
theorem dX1_unifiedClasses_11 : decode cX1_unifiedClasses 11 = .ok (.invokevirtual 265, 3) := dk_182 1 9 (dk_at dksX1_unifiedClasses_0 11 rfl rfl)
theorem dX1_unifiedClasses_14 : decode cX1_unifiedClasses 14 = .ok (.ireturn, 1) := dk_172 (dk_at dksX1_unifiedClasses_0 14 rfl rfl)
abbrev cX1_run : ByteArray := prog_1_method_50_code
def yX1_run : MethodName := ⟨RX1, "run", "()I"⟩
def dkwX1_run_0 : List UInt8 := [42, 187, 1, 38, 89, 42, 180, 0, 46, 183, 1, 40, 181, 0, 89, 42, 180, 0, 89, 180, 1, 41, 172]
abbrev dktX1_run_0 : List UInt8 := dkwX1_run_0 ++ []
theorem dksX1_run_0 : cX1_run.data.toList.drop 0 = dktX1_run_0 := by decide +kernel
theorem dX1_run_0 : decode cX1_run 0 = .ok (.aload_n 0, 1) := dk_42 (dk_at dksX1_run_0 0 rfl rfl)
theorem dX1_run_1 : decode cX1_run 1 = .ok (.new 294, 3) := dk_187 1 38 (dk_at dksX1_run_0 1 rfl rfl)
theorem dX1_run_4 : decode cX1_run 4 = .ok (.dup, 1) := dk_89 (dk_at dksX1_run_0 4 rfl rfl)
theorem dX1_run_5 : decode cX1_run 5 = .ok (.aload_n 0, 1) := dk_42 (dk_at dksX1_run_0 5 rfl rfl)
theorem dX1_run_6 : decode cX1_run 6 = .ok (.getfield 46, 3) := dk_180 0 46 (dk_at dksX1_run_0 6 rfl rfl)
theorem dX1_run_9 : decode cX1_run 9 = .ok (.invokespecial 296, 3) := dk_183 1 40 (dk_at dksX1_run_0 9 rfl rfl)
theorem dX1_run_12 : decode cX1_run 12 = .ok (.putfield 89, 3) := dk_181 0 89 (dk_at dksX1_run_0 12 rfl rfl)
theorem dX1_run_15 : decode cX1_run 15 = .ok (.aload_n 0, 1) := dk_42 (dk_at dksX1_run_0 15 rfl rfl)
theorem dX1_run_16 : decode cX1_run 16 = .ok (.getfield 89, 3) := dk_180 0 89 (dk_at dksX1_run_0 16 rfl rfl)
theorem dX1_run_19 : decode cX1_run 19 = .ok (.getfield 297, 3) := dk_180 1 41 (dk_at dksX1_run_0 19 rfl rfl)
theorem dX1_run_22 : decode cX1_run 22 = .ok (.ireturn, 1) := dk_172 (dk_at dksX1_run_0 22 rfl rfl)
abbrev cX1_faults : ByteArray := prog_1_method_53_code
def yX1_faults : MethodName := ⟨RX1, "faults", "()I"⟩
def dkwX1_faults_0 : List UInt8 := [42, 180, 0, 89, 199, 0, 7, 3, 167, 0, 10, 42, 180, 0, 89, 180, 1, 48, 172]
abbrev dktX1_faults_0 : List UInt8 := dkwX1_faults_0 ++ []
theorem dksX1_faults_0 : cX1_faults.data.toList.drop 0 = dktX1_faults_0 := by decide +kernel
theorem dX1_faults_0 : decode cX1_faults 0 = .ok (.aload_n 0, 1) := dk_42 (dk_at dksX1_faults_0 0 rfl rfl)
theorem dX1_faults_1 : decode cX1_faults 1 = .ok (.getfield 89, 3) := dk_180 0 89 (dk_at dksX1_faults_0 1 rfl rfl)
theorem dX1_faults_4 : decode cX1_faults 4 = .ok (.ifnonnull 7, 3) := dk_199 0 7 (dk_at dksX1_faults_0 4 rfl rfl)
theorem dX1_faults_7 : decode cX1_faults 7 = .ok (.iconst 0, 1) := dk_3 (dk_at dksX1_faults_0 7 rfl rfl)
theorem dX1_faults_8 : decode cX1_faults 8 = .ok (.goto 10, 3) := dk_167 0 10 (dk_at dksX1_faults_0 8 rfl rfl)
theorem dX1_faults_11 : decode cX1_faults 11 = .ok (.aload_n 0, 1) := dk_42 (dk_at dksX1_faults_0 11 rfl rfl)
theorem dX1_faults_12 : decode cX1_faults 12 = .ok (.getfield 89, 3) := dk_180 0 89 (dk_at dksX1_faults_0 12 rfl rfl)
theorem dX1_faults_15 : decode cX1_faults 15 = .ok (.getfield 304, 3) := dk_180 1 48 (dk_at dksX1_faults_0 15 rfl rfl)
theorem dX1_faults_18 : decode cX1_faults 18 = .ok (.ireturn, 1) := dk_172 (dk_at dksX1_faults_0 18 rfl rfl)
abbrev cX1_objects : ByteArray := prog_1_method_54_code
def yX1_objects : MethodName := ⟨RX1, "objects", "()I"⟩
def dkwX1_objects_0 : List UInt8 := [42, 180, 0, 89, 199, 0, 7, 3, 167, 0, 10, 42, 180, 0, 89, 180, 1, 51, 172]
abbrev dktX1_objects_0 : List UInt8 := dkwX1_objects_0 ++ []
theorem dksX1_objects_0 : cX1_objects.data.toList.drop 0 = dktX1_objects_0 := by decide +kernel
theorem dX1_objects_0 : decode cX1_objects 0 = .ok (.aload_n 0, 1) := dk_42 (dk_at dksX1_objects_0 0 rfl rfl)
theorem dX1_objects_1 : decode cX1_objects 1 = .ok (.getfield 89, 3) := dk_180 0 89 (dk_at dksX1_objects_0 1 rfl rfl)
theorem dX1_objects_4 : decode cX1_objects 4 = .ok (.ifnonnull 7, 3) := dk_199 0 7 (dk_at dksX1_objects_0 4 rfl rfl)
theorem dX1_objects_7 : decode cX1_objects 7 = .ok (.iconst 0, 1) := dk_3 (dk_at dksX1_objects_0 7 rfl rfl)
theorem dX1_objects_8 : decode cX1_objects 8 = .ok (.goto 10, 3) := dk_167 0 10 (dk_at dksX1_objects_0 8 rfl rfl)
theorem dX1_objects_11 : decode cX1_objects 11 = .ok (.aload_n 0, 1) := dk_42 (dk_at dksX1_objects_0 11 rfl rfl)
theorem dX1_objects_12 : decode cX1_objects 12 = .ok (.getfield 89, 3) := dk_180 0 89 (dk_at dksX1_objects_0 12 rfl rfl)
theorem dX1_objects_15 : decode cX1_objects 15 = .ok (.getfield 307, 3) := dk_180 1 51 (dk_at dksX1_objects_0 15 rfl rfl)
theorem dX1_objects_18 : decode cX1_objects 18 = .ok (.ireturn, 1) := dk_172 (dk_at dksX1_objects_0 18 rfl rfl)
abbrev cX1_save : ByteArray := prog_1_method_57_code
def yX1_save : MethodName := ⟨RX1, "save", "()V"⟩
def dkwX1_save_0 : List UInt8 := [42, 42, 180, 0, 46, 181, 1, 60, 42, 42, 180, 0, 142, 181, 1, 63, 177]
abbrev dktX1_save_0 : List UInt8 := dkwX1_save_0 ++ []
theorem dksX1_save_0 : cX1_save.data.toList.drop 0 = dktX1_save_0 := by decide +kernel
theorem dX1_save_0 : decode cX1_save 0 = .ok (.aload_n 0, 1) := dk_42 (dk_at dksX1_save_0 0 rfl rfl)
theorem dX1_save_1 : decode cX1_save 1 = .ok (.aload_n 0, 1) := dk_42 (dk_at dksX1_save_0 1 rfl rfl)
theorem dX1_save_2 : decode cX1_save 2 = .ok (.getfield 46, 3) := dk_180 0 46 (dk_at dksX1_save_0 2 rfl rfl)
theorem dX1_save_5 : decode cX1_save 5 = .ok (.putfield 316, 3) := dk_181 1 60 (dk_at dksX1_save_0 5 rfl rfl)
theorem dX1_save_8 : decode cX1_save 8 = .ok (.aload_n 0, 1) := dk_42 (dk_at dksX1_save_0 8 rfl rfl)
theorem dX1_save_9 : decode cX1_save 9 = .ok (.aload_n 0, 1) := dk_42 (dk_at dksX1_save_0 9 rfl rfl)
theorem dX1_save_10 : decode cX1_save 10 = .ok (.getfield 142, 3) := dk_180 0 142 (dk_at dksX1_save_0 10 rfl rfl)
theorem dX1_save_13 : decode cX1_save 13 = .ok (.putfield 319, 3) := dk_181 1 63 (dk_at dksX1_save_0 13 rfl rfl)
theorem dX1_save_16 : decode cX1_save 16 = .ok (.return_, 1) := dk_177 (dk_at dksX1_save_0 16 rfl rfl)
abbrev cX1_appendCharacter : ByteArray := prog_1_method_12_code
def yX1_appendCharacter : MethodName := ⟨RX1, "appendCharacter", "(I)I"⟩
def dkwX1_appendCharacter_2 : List UInt8 := [181, 0, 62, 42, 180, 0, 62, 172]
abbrev dktX1_appendCharacter_2 : List UInt8 := dkwX1_appendCharacter_2 ++ []
def dkwX1_appendCharacter_1 : List UInt8 := [3, 184, 0, 65, 42, 180, 0, 50, 42, 180, 0, 62, 27, 146, 85, 42, 89, 180, 0, 62, 4, 96]
abbrev dktX1_appendCharacter_1 : List UInt8 := dkwX1_appendCharacter_1 ++ dktX1_appendCharacter_2
def dkwX1_appendCharacter_0 : List UInt8 := [27, 16, 33, 16, 126, 184, 0, 15, 184, 0, 58, 42, 180, 0, 62, 16, 80, 162, 0, 7, 4, 167, 0, 4]
abbrev dktX1_appendCharacter_0 : List UInt8 := dkwX1_appendCharacter_0 ++ dktX1_appendCharacter_1
theorem dksX1_appendCharacter_0 : cX1_appendCharacter.data.toList.drop 0 = dktX1_appendCharacter_0 := by decide +kernel
theorem dksX1_appendCharacter_1 : cX1_appendCharacter.data.toList.drop 24 = dktX1_appendCharacter_1 := dk_seg dksX1_appendCharacter_0 24 rfl rfl
theorem dksX1_appendCharacter_2 : cX1_appendCharacter.data.toList.drop 46 = dktX1_appendCharacter_2 := dk_seg dksX1_appendCharacter_1 22 rfl rfl
theorem dX1_appendCharacter_0 : decode cX1_appendCharacter 0 = .ok (.iload_n 1, 1) := dk_27 (dk_at dksX1_appendCharacter_0 0 rfl rfl)
theorem dX1_appendCharacter_1 : decode cX1_appendCharacter 1 = .ok (.bipush 33, 2) := dk_16 33 (dk_at dksX1_appendCharacter_0 1 rfl rfl)
theorem dX1_appendCharacter_3 : decode cX1_appendCharacter 3 = .ok (.bipush 126, 2) := dk_16 126 (dk_at dksX1_appendCharacter_0 3 rfl rfl)
theorem dX1_appendCharacter_5 : decode cX1_appendCharacter 5 = .ok (.invokestatic 15, 3) := dk_184 0 15 (dk_at dksX1_appendCharacter_0 5 rfl rfl)
theorem dX1_appendCharacter_8 : decode cX1_appendCharacter 8 = .ok (.invokestatic 58, 3) := dk_184 0 58 (dk_at dksX1_appendCharacter_0 8 rfl rfl)
theorem dX1_appendCharacter_11 : decode cX1_appendCharacter 11 = .ok (.aload_n 0, 1) := dk_42 (dk_at dksX1_appendCharacter_0 11 rfl rfl)
theorem dX1_appendCharacter_12 : decode cX1_appendCharacter 12 = .ok (.getfield 62, 3) := dk_180 0 62 (dk_at dksX1_appendCharacter_0 12 rfl rfl)
theorem dX1_appendCharacter_15 : decode cX1_appendCharacter 15 = .ok (.bipush 80, 2) := dk_16 80 (dk_at dksX1_appendCharacter_0 15 rfl rfl)
theorem dX1_appendCharacter_17 : decode cX1_appendCharacter 17 = .ok (.if_icmp .ge 7, 3) := dk_162 0 7 (dk_at dksX1_appendCharacter_0 17 rfl rfl)
theorem dX1_appendCharacter_20 : decode cX1_appendCharacter 20 = .ok (.iconst 1, 1) := dk_4 (dk_at dksX1_appendCharacter_0 20 rfl rfl)
theorem dX1_appendCharacter_21 : decode cX1_appendCharacter 21 = .ok (.goto 4, 3) := dk_167 0 4 (dk_at dksX1_appendCharacter_0 21 rfl rfl)
theorem dX1_appendCharacter_24 : decode cX1_appendCharacter 24 = .ok (.iconst 0, 1) := dk_3 (dk_at dksX1_appendCharacter_1 0 rfl rfl)
theorem dX1_appendCharacter_25 : decode cX1_appendCharacter 25 = .ok (.invokestatic 65, 3) := dk_184 0 65 (dk_at dksX1_appendCharacter_1 1 rfl rfl)
theorem dX1_appendCharacter_28 : decode cX1_appendCharacter 28 = .ok (.aload_n 0, 1) := dk_42 (dk_at dksX1_appendCharacter_1 4 rfl rfl)
theorem dX1_appendCharacter_29 : decode cX1_appendCharacter 29 = .ok (.getfield 50, 3) := dk_180 0 50 (dk_at dksX1_appendCharacter_1 5 rfl rfl)
theorem dX1_appendCharacter_32 : decode cX1_appendCharacter 32 = .ok (.aload_n 0, 1) := dk_42 (dk_at dksX1_appendCharacter_1 8 rfl rfl)
theorem dX1_appendCharacter_33 : decode cX1_appendCharacter 33 = .ok (.getfield 62, 3) := dk_180 0 62 (dk_at dksX1_appendCharacter_1 9 rfl rfl)
theorem dX1_appendCharacter_36 : decode cX1_appendCharacter 36 = .ok (.iload_n 1, 1) := dk_27 (dk_at dksX1_appendCharacter_1 12 rfl rfl)
theorem dX1_appendCharacter_37 : decode cX1_appendCharacter 37 = .ok (.i2c, 1) := dk_146 (dk_at dksX1_appendCharacter_1 13 rfl rfl)
theorem dX1_appendCharacter_38 : decode cX1_appendCharacter 38 = .ok (.castore, 1) := dk_85 (dk_at dksX1_appendCharacter_1 14 rfl rfl)
theorem dX1_appendCharacter_39 : decode cX1_appendCharacter 39 = .ok (.aload_n 0, 1) := dk_42 (dk_at dksX1_appendCharacter_1 15 rfl rfl)
theorem dX1_appendCharacter_40 : decode cX1_appendCharacter 40 = .ok (.dup, 1) := dk_89 (dk_at dksX1_appendCharacter_1 16 rfl rfl)
theorem dX1_appendCharacter_41 : decode cX1_appendCharacter 41 = .ok (.getfield 62, 3) := dk_180 0 62 (dk_at dksX1_appendCharacter_1 17 rfl rfl)
theorem dX1_appendCharacter_44 : decode cX1_appendCharacter 44 = .ok (.iconst 1, 1) := dk_4 (dk_at dksX1_appendCharacter_1 20 rfl rfl)
theorem dX1_appendCharacter_45 : decode cX1_appendCharacter 45 = .ok (.iadd, 1) := dk_96 (dk_at dksX1_appendCharacter_1 21 rfl rfl)
theorem dX1_appendCharacter_46 : decode cX1_appendCharacter 46 = .ok (.putfield 62, 3) := dk_181 0 62 (dk_at dksX1_appendCharacter_2 0 rfl rfl)
theorem dX1_appendCharacter_49 : decode cX1_appendCharacter 49 = .ok (.aload_n 0, 1) := dk_42 (dk_at dksX1_appendCharacter_2 3 rfl rfl)
theorem dX1_appendCharacter_50 : decode cX1_appendCharacter 50 = .ok (.getfield 62, 3) := dk_180 0 62 (dk_at dksX1_appendCharacter_2 4 rfl rfl)
theorem dX1_appendCharacter_53 : decode cX1_appendCharacter 53 = .ok (.ireturn, 1) := dk_172 (dk_at dksX1_appendCharacter_2 7 rfl rfl)
abbrev cX1_isBetween : ByteArray := prog_1_method_1_code
def yX1_isBetween : MethodName := ⟨RX1, "isBetween", "(III)Z"⟩
def dkwX1_isBetween_0 : List UInt8 := [26, 27, 161, 0, 12, 26, 28, 163, 0, 7, 4, 167, 0, 4, 3, 172]
abbrev dktX1_isBetween_0 : List UInt8 := dkwX1_isBetween_0 ++ []
theorem dksX1_isBetween_0 : cX1_isBetween.data.toList.drop 0 = dktX1_isBetween_0 := by decide +kernel
theorem dX1_isBetween_0 : decode cX1_isBetween 0 = .ok (.iload_n 0, 1) := dk_26 (dk_at dksX1_isBetween_0 0 rfl rfl)
theorem dX1_isBetween_1 : decode cX1_isBetween 1 = .ok (.iload_n 1, 1) := dk_27 (dk_at dksX1_isBetween_0 1 rfl rfl)
theorem dX1_isBetween_2 : decode cX1_isBetween 2 = .ok (.if_icmp .lt 12, 3) := dk_161 0 12 (dk_at dksX1_isBetween_0 2 rfl rfl)
theorem dX1_isBetween_5 : decode cX1_isBetween 5 = .ok (.iload_n 0, 1) := dk_26 (dk_at dksX1_isBetween_0 5 rfl rfl)
theorem dX1_isBetween_6 : decode cX1_isBetween 6 = .ok (.iload_n 2, 1) := dk_28 (dk_at dksX1_isBetween_0 6 rfl rfl)
theorem dX1_isBetween_7 : decode cX1_isBetween 7 = .ok (.if_icmp .gt 7, 3) := dk_163 0 7 (dk_at dksX1_isBetween_0 7 rfl rfl)
theorem dX1_isBetween_10 : decode cX1_isBetween 10 = .ok (.iconst 1, 1) := dk_4 (dk_at dksX1_isBetween_0 10 rfl rfl)
theorem dX1_isBetween_11 : decode cX1_isBetween 11 = .ok (.goto 4, 3) := dk_167 0 4 (dk_at dksX1_isBetween_0 11 rfl rfl)
theorem dX1_isBetween_14 : decode cX1_isBetween 14 = .ok (.iconst 0, 1) := dk_3 (dk_at dksX1_isBetween_0 14 rfl rfl)
theorem dX1_isBetween_15 : decode cX1_isBetween 15 = .ok (.ireturn, 1) := dk_172 (dk_at dksX1_isBetween_0 15 rfl rfl)
abbrev cX1_requireArgument : ByteArray := prog_1_method_2_code
def yX1_requireArgument : MethodName := ⟨RX1, "requireArgument", "(Z)V"⟩
def dkwX1_requireArgument_0 : List UInt8 := [26, 154, 0, 11, 187, 0, 3, 89, 183, 0, 5, 191, 177]
abbrev dktX1_requireArgument_0 : List UInt8 := dkwX1_requireArgument_0 ++ []
theorem dksX1_requireArgument_0 : cX1_requireArgument.data.toList.drop 0 = dktX1_requireArgument_0 := by decide +kernel
theorem dX1_requireArgument_0 : decode cX1_requireArgument 0 = .ok (.iload_n 0, 1) := dk_26 (dk_at dksX1_requireArgument_0 0 rfl rfl)
theorem dX1_requireArgument_1 : decode cX1_requireArgument 1 = .ok (.ifCond .ne 11, 3) := dk_154 0 11 (dk_at dksX1_requireArgument_0 1 rfl rfl)
theorem dX1_requireArgument_4 : decode cX1_requireArgument 4 = .ok (.new 3, 3) := dk_187 0 3 (dk_at dksX1_requireArgument_0 4 rfl rfl)
theorem dX1_requireArgument_7 : decode cX1_requireArgument 7 = .ok (.dup, 1) := dk_89 (dk_at dksX1_requireArgument_0 7 rfl rfl)
theorem dX1_requireArgument_8 : decode cX1_requireArgument 8 = .ok (.invokespecial 5, 3) := dk_183 0 5 (dk_at dksX1_requireArgument_0 8 rfl rfl)
theorem dX1_requireArgument_11 : decode cX1_requireArgument 11 = .ok (.athrow, 1) := dk_191 (dk_at dksX1_requireArgument_0 11 rfl rfl)
theorem dX1_requireArgument_12 : decode cX1_requireArgument 12 = .ok (.return_, 1) := dk_177 (dk_at dksX1_requireArgument_0 12 rfl rfl)
abbrev cX1_requireState : ByteArray := prog_1_method_3_code
def yX1_requireState : MethodName := ⟨RX1, "requireState", "(Z)V"⟩
def dkwX1_requireState_0 : List UInt8 := [26, 154, 0, 11, 187, 0, 9, 89, 183, 0, 11, 191, 177]
abbrev dktX1_requireState_0 : List UInt8 := dkwX1_requireState_0 ++ []
theorem dksX1_requireState_0 : cX1_requireState.data.toList.drop 0 = dktX1_requireState_0 := by decide +kernel
theorem dX1_requireState_0 : decode cX1_requireState 0 = .ok (.iload_n 0, 1) := dk_26 (dk_at dksX1_requireState_0 0 rfl rfl)
theorem dX1_requireState_1 : decode cX1_requireState 1 = .ok (.ifCond .ne 11, 3) := dk_154 0 11 (dk_at dksX1_requireState_0 1 rfl rfl)
theorem dX1_requireState_4 : decode cX1_requireState 4 = .ok (.new 9, 3) := dk_187 0 9 (dk_at dksX1_requireState_0 4 rfl rfl)
theorem dX1_requireState_7 : decode cX1_requireState 7 = .ok (.dup, 1) := dk_89 (dk_at dksX1_requireState_0 7 rfl rfl)
theorem dX1_requireState_8 : decode cX1_requireState 8 = .ok (.invokespecial 11, 3) := dk_183 0 11 (dk_at dksX1_requireState_0 8 rfl rfl)
theorem dX1_requireState_11 : decode cX1_requireState 11 = .ok (.athrow, 1) := dk_191 (dk_at dksX1_requireState_0 11 rfl rfl)
theorem dX1_requireState_12 : decode cX1_requireState 12 = .ok (.return_, 1) := dk_177 (dk_at dksX1_requireState_0 12 rfl rfl)
abbrev cX1_setBody : ByteArray := prog_1_method_15_code
def yX1_setBody : MethodName := ⟨RX1, "setBody", "(I)I"⟩
def dkwX1_setBody_3 : List UInt8 := [167, 0, 4, 3, 184, 0, 65, 42, 45, 182, 0, 116, 44, 182, 0, 19, 172]
abbrev dktX1_setBody_3 : List UInt8 := dkwX1_setBody_3 ++ []
def dkwX1_setBody_2 : List UInt8 := [178, 0, 104, 182, 0, 109, 16, 8, 163, 0, 18, 45, 178, 0, 113, 182, 0, 109, 8, 163, 0, 7, 4]
abbrev dktX1_setBody_2 : List UInt8 := dkwX1_setBody_2 ++ dktX1_setBody_3
def dkwX1_setBody_1 : List UInt8 := [3, 184, 0, 58, 42, 180, 0, 46, 27, 44, 182, 0, 42, 78, 44, 182, 0, 19, 16, 12, 163, 0, 30, 45]
abbrev dktX1_setBody_1 : List UInt8 := dkwX1_setBody_1 ++ dktX1_setBody_2
def dkwX1_setBody_0 : List UInt8 := [27, 184, 0, 93, 184, 0, 97, 42, 27, 182, 0, 100, 77, 42, 180, 0, 54, 156, 0, 7, 4, 167, 0, 4]
abbrev dktX1_setBody_0 : List UInt8 := dkwX1_setBody_0 ++ dktX1_setBody_1
theorem dksX1_setBody_0 : cX1_setBody.data.toList.drop 0 = dktX1_setBody_0 := by decide +kernel
theorem dksX1_setBody_1 : cX1_setBody.data.toList.drop 24 = dktX1_setBody_1 := dk_seg dksX1_setBody_0 24 rfl rfl
theorem dksX1_setBody_2 : cX1_setBody.data.toList.drop 48 = dktX1_setBody_2 := dk_seg dksX1_setBody_1 24 rfl rfl
theorem dksX1_setBody_3 : cX1_setBody.data.toList.drop 71 = dktX1_setBody_3 := dk_seg dksX1_setBody_2 23 rfl rfl
theorem dX1_setBody_0 : decode cX1_setBody 0 = .ok (.iload_n 1, 1) := dk_27 (dk_at dksX1_setBody_0 0 rfl rfl)
theorem dX1_setBody_1 : decode cX1_setBody 1 = .ok (.invokestatic 93, 3) := dk_184 0 93 (dk_at dksX1_setBody_0 1 rfl rfl)
theorem dX1_setBody_4 : decode cX1_setBody 4 = .ok (.invokestatic 97, 3) := dk_184 0 97 (dk_at dksX1_setBody_0 4 rfl rfl)
theorem dX1_setBody_7 : decode cX1_setBody 7 = .ok (.aload_n 0, 1) := dk_42 (dk_at dksX1_setBody_0 7 rfl rfl)
theorem dX1_setBody_8 : decode cX1_setBody 8 = .ok (.iload_n 1, 1) := dk_27 (dk_at dksX1_setBody_0 8 rfl rfl)
theorem dX1_setBody_9 : decode cX1_setBody 9 = .ok (.invokevirtual 100, 3) := dk_182 0 100 (dk_at dksX1_setBody_0 9 rfl rfl)
theorem dX1_setBody_12 : decode cX1_setBody 12 = .ok (.astore_n 2, 1) := dk_77 (dk_at dksX1_setBody_0 12 rfl rfl)
theorem dX1_setBody_13 : decode cX1_setBody 13 = .ok (.aload_n 0, 1) := dk_42 (dk_at dksX1_setBody_0 13 rfl rfl)
theorem dX1_setBody_14 : decode cX1_setBody 14 = .ok (.getfield 54, 3) := dk_180 0 54 (dk_at dksX1_setBody_0 14 rfl rfl)
theorem dX1_setBody_17 : decode cX1_setBody 17 = .ok (.ifCond .ge 7, 3) := dk_156 0 7 (dk_at dksX1_setBody_0 17 rfl rfl)
theorem dX1_setBody_20 : decode cX1_setBody 20 = .ok (.iconst 1, 1) := dk_4 (dk_at dksX1_setBody_0 20 rfl rfl)
theorem dX1_setBody_21 : decode cX1_setBody 21 = .ok (.goto 4, 3) := dk_167 0 4 (dk_at dksX1_setBody_0 21 rfl rfl)
theorem dX1_setBody_24 : decode cX1_setBody 24 = .ok (.iconst 0, 1) := dk_3 (dk_at dksX1_setBody_1 0 rfl rfl)
theorem dX1_setBody_25 : decode cX1_setBody 25 = .ok (.invokestatic 58, 3) := dk_184 0 58 (dk_at dksX1_setBody_1 1 rfl rfl)
theorem dX1_setBody_28 : decode cX1_setBody 28 = .ok (.aload_n 0, 1) := dk_42 (dk_at dksX1_setBody_1 4 rfl rfl)
theorem dX1_setBody_29 : decode cX1_setBody 29 = .ok (.getfield 46, 3) := dk_180 0 46 (dk_at dksX1_setBody_1 5 rfl rfl)
theorem dX1_setBody_32 : decode cX1_setBody 32 = .ok (.iload_n 1, 1) := dk_27 (dk_at dksX1_setBody_1 8 rfl rfl)
theorem dX1_setBody_33 : decode cX1_setBody 33 = .ok (.aload_n 2, 1) := dk_44 (dk_at dksX1_setBody_1 9 rfl rfl)
theorem dX1_setBody_34 : decode cX1_setBody 34 = .ok (.invokevirtual 42, 3) := dk_182 0 42 (dk_at dksX1_setBody_1 10 rfl rfl)
theorem dX1_setBody_37 : decode cX1_setBody 37 = .ok (.astore_n 3, 1) := dk_78 (dk_at dksX1_setBody_1 13 rfl rfl)
theorem dX1_setBody_38 : decode cX1_setBody 38 = .ok (.aload_n 2, 1) := dk_44 (dk_at dksX1_setBody_1 14 rfl rfl)
theorem dX1_setBody_39 : decode cX1_setBody 39 = .ok (.invokevirtual 19, 3) := dk_182 0 19 (dk_at dksX1_setBody_1 15 rfl rfl)
theorem dX1_setBody_42 : decode cX1_setBody 42 = .ok (.bipush 12, 2) := dk_16 12 (dk_at dksX1_setBody_1 18 rfl rfl)
theorem dX1_setBody_44 : decode cX1_setBody 44 = .ok (.if_icmp .gt 30, 3) := dk_163 0 30 (dk_at dksX1_setBody_1 20 rfl rfl)
theorem dX1_setBody_47 : decode cX1_setBody 47 = .ok (.aload_n 3, 1) := dk_45 (dk_at dksX1_setBody_1 23 rfl rfl)
theorem dX1_setBody_48 : decode cX1_setBody 48 = .ok (.getstatic 104, 3) := dk_178 0 104 (dk_at dksX1_setBody_2 0 rfl rfl)
theorem dX1_setBody_51 : decode cX1_setBody 51 = .ok (.invokevirtual 109, 3) := dk_182 0 109 (dk_at dksX1_setBody_2 3 rfl rfl)
theorem dX1_setBody_54 : decode cX1_setBody 54 = .ok (.bipush 8, 2) := dk_16 8 (dk_at dksX1_setBody_2 6 rfl rfl)
theorem dX1_setBody_56 : decode cX1_setBody 56 = .ok (.if_icmp .gt 18, 3) := dk_163 0 18 (dk_at dksX1_setBody_2 8 rfl rfl)
theorem dX1_setBody_59 : decode cX1_setBody 59 = .ok (.aload_n 3, 1) := dk_45 (dk_at dksX1_setBody_2 11 rfl rfl)
theorem dX1_setBody_60 : decode cX1_setBody 60 = .ok (.getstatic 113, 3) := dk_178 0 113 (dk_at dksX1_setBody_2 12 rfl rfl)
theorem dX1_setBody_63 : decode cX1_setBody 63 = .ok (.invokevirtual 109, 3) := dk_182 0 109 (dk_at dksX1_setBody_2 15 rfl rfl)
theorem dX1_setBody_66 : decode cX1_setBody 66 = .ok (.iconst 5, 1) := dk_8 (dk_at dksX1_setBody_2 18 rfl rfl)
theorem dX1_setBody_67 : decode cX1_setBody 67 = .ok (.if_icmp .gt 7, 3) := dk_163 0 7 (dk_at dksX1_setBody_2 19 rfl rfl)
theorem dX1_setBody_70 : decode cX1_setBody 70 = .ok (.iconst 1, 1) := dk_4 (dk_at dksX1_setBody_2 22 rfl rfl)
theorem dX1_setBody_71 : decode cX1_setBody 71 = .ok (.goto 4, 3) := dk_167 0 4 (dk_at dksX1_setBody_3 0 rfl rfl)
theorem dX1_setBody_74 : decode cX1_setBody 74 = .ok (.iconst 0, 1) := dk_3 (dk_at dksX1_setBody_3 3 rfl rfl)
theorem dX1_setBody_75 : decode cX1_setBody 75 = .ok (.invokestatic 65, 3) := dk_184 0 65 (dk_at dksX1_setBody_3 4 rfl rfl)
theorem dX1_setBody_78 : decode cX1_setBody 78 = .ok (.aload_n 0, 1) := dk_42 (dk_at dksX1_setBody_3 7 rfl rfl)
theorem dX1_setBody_79 : decode cX1_setBody 79 = .ok (.aload_n 3, 1) := dk_45 (dk_at dksX1_setBody_3 8 rfl rfl)
theorem dX1_setBody_80 : decode cX1_setBody 80 = .ok (.invokevirtual 116, 3) := dk_182 0 116 (dk_at dksX1_setBody_3 9 rfl rfl)
theorem dX1_setBody_83 : decode cX1_setBody 83 = .ok (.aload_n 2, 1) := dk_44 (dk_at dksX1_setBody_3 12 rfl rfl)
theorem dX1_setBody_84 : decode cX1_setBody 84 = .ok (.invokevirtual 19, 3) := dk_182 0 19 (dk_at dksX1_setBody_3 13 rfl rfl)
theorem dX1_setBody_87 : decode cX1_setBody 87 = .ok (.ireturn, 1) := dk_172 (dk_at dksX1_setBody_3 16 rfl rfl)
abbrev cX1_isFunction : ByteArray := prog_1_method_5_code
def yX1_isFunction : MethodName := ⟨RX1, "isFunction", "(I)Z"⟩
def dkwX1_isFunction_0 : List UInt8 := [26, 3, 6, 184, 0, 15, 172]
abbrev dktX1_isFunction_0 : List UInt8 := dkwX1_isFunction_0 ++ []
theorem dksX1_isFunction_0 : cX1_isFunction.data.toList.drop 0 = dktX1_isFunction_0 := by decide +kernel
theorem dX1_isFunction_0 : decode cX1_isFunction 0 = .ok (.iload_n 0, 1) := dk_26 (dk_at dksX1_isFunction_0 0 rfl rfl)
theorem dX1_isFunction_1 : decode cX1_isFunction 1 = .ok (.iconst 0, 1) := dk_3 (dk_at dksX1_isFunction_0 1 rfl rfl)
theorem dX1_isFunction_2 : decode cX1_isFunction 2 = .ok (.iconst 3, 1) := dk_6 (dk_at dksX1_isFunction_0 2 rfl rfl)
theorem dX1_isFunction_3 : decode cX1_isFunction 3 = .ok (.invokestatic 15, 3) := dk_184 0 15 (dk_at dksX1_isFunction_0 3 rfl rfl)
theorem dX1_isFunction_6 : decode cX1_isFunction 6 = .ok (.ireturn, 1) := dk_172 (dk_at dksX1_isFunction_0 6 rfl rfl)
abbrev cX1_requireIndex : ByteArray := prog_1_method_4_code
def yX1_requireIndex : MethodName := ⟨RX1, "requireIndex", "(Z)V"⟩
def dkwX1_requireIndex_0 : List UInt8 := [26, 154, 0, 11, 187, 0, 12, 89, 183, 0, 14, 191, 177]
abbrev dktX1_requireIndex_0 : List UInt8 := dkwX1_requireIndex_0 ++ []
theorem dksX1_requireIndex_0 : cX1_requireIndex.data.toList.drop 0 = dktX1_requireIndex_0 := by decide +kernel
theorem dX1_requireIndex_0 : decode cX1_requireIndex 0 = .ok (.iload_n 0, 1) := dk_26 (dk_at dksX1_requireIndex_0 0 rfl rfl)
theorem dX1_requireIndex_1 : decode cX1_requireIndex 1 = .ok (.ifCond .ne 11, 3) := dk_154 0 11 (dk_at dksX1_requireIndex_0 1 rfl rfl)
theorem dX1_requireIndex_4 : decode cX1_requireIndex 4 = .ok (.new 12, 3) := dk_187 0 12 (dk_at dksX1_requireIndex_0 4 rfl rfl)
theorem dX1_requireIndex_7 : decode cX1_requireIndex 7 = .ok (.dup, 1) := dk_89 (dk_at dksX1_requireIndex_0 7 rfl rfl)
theorem dX1_requireIndex_8 : decode cX1_requireIndex 8 = .ok (.invokespecial 14, 3) := dk_183 0 14 (dk_at dksX1_requireIndex_0 8 rfl rfl)
theorem dX1_requireIndex_11 : decode cX1_requireIndex 11 = .ok (.athrow, 1) := dk_191 (dk_at dksX1_requireIndex_0 11 rfl rfl)
theorem dX1_requireIndex_12 : decode cX1_requireIndex 12 = .ok (.return_, 1) := dk_177 (dk_at dksX1_requireIndex_0 12 rfl rfl)
abbrev cX1_readBody : ByteArray := prog_1_method_13_code
def yX1_readBody : MethodName := ⟨RX1, "readBody", "(I)Ljava/util/ArrayList;"⟩
def dkwX1_readBody_2 : List UInt8 := [181, 0, 62, 25, 4, 191, 44, 180, 0, 81, 176]
abbrev dktX1_readBody_2 : List UInt8 := dkwX1_readBody_2 ++ []
def dkwX1_readBody_1 : List UInt8 := [167, 0, 30, 78, 42, 45, 180, 0, 78, 181, 0, 54, 42, 3, 181, 0, 62, 167, 0, 13, 58, 4, 42, 3]
abbrev dktX1_readBody_1 : List UInt8 := dkwX1_readBody_1 ++ dktX1_readBody_2
def dkwX1_readBody_0 : List UInt8 := [187, 0, 68, 89, 42, 27, 183, 0, 70, 77, 44, 182, 0, 73, 42, 2, 181, 0, 54, 42, 3, 181, 0, 62]
abbrev dktX1_readBody_0 : List UInt8 := dkwX1_readBody_0 ++ dktX1_readBody_1
theorem dksX1_readBody_0 : cX1_readBody.data.toList.drop 0 = dktX1_readBody_0 := by decide +kernel
theorem dksX1_readBody_1 : cX1_readBody.data.toList.drop 24 = dktX1_readBody_1 := dk_seg dksX1_readBody_0 24 rfl rfl
theorem dksX1_readBody_2 : cX1_readBody.data.toList.drop 48 = dktX1_readBody_2 := dk_seg dksX1_readBody_1 24 rfl rfl
theorem dX1_readBody_0 : decode cX1_readBody 0 = .ok (.new 68, 3) := dk_187 0 68 (dk_at dksX1_readBody_0 0 rfl rfl)
theorem dX1_readBody_3 : decode cX1_readBody 3 = .ok (.dup, 1) := dk_89 (dk_at dksX1_readBody_0 3 rfl rfl)
theorem dX1_readBody_4 : decode cX1_readBody 4 = .ok (.aload_n 0, 1) := dk_42 (dk_at dksX1_readBody_0 4 rfl rfl)
theorem dX1_readBody_5 : decode cX1_readBody 5 = .ok (.iload_n 1, 1) := dk_27 (dk_at dksX1_readBody_0 5 rfl rfl)
theorem dX1_readBody_6 : decode cX1_readBody 6 = .ok (.invokespecial 70, 3) := dk_183 0 70 (dk_at dksX1_readBody_0 6 rfl rfl)
theorem dX1_readBody_9 : decode cX1_readBody 9 = .ok (.astore_n 2, 1) := dk_77 (dk_at dksX1_readBody_0 9 rfl rfl)
theorem dX1_readBody_10 : decode cX1_readBody 10 = .ok (.aload_n 2, 1) := dk_44 (dk_at dksX1_readBody_0 10 rfl rfl)
theorem dX1_readBody_11 : decode cX1_readBody 11 = .ok (.invokevirtual 73, 3) := dk_182 0 73 (dk_at dksX1_readBody_0 11 rfl rfl)
theorem dX1_readBody_14 : decode cX1_readBody 14 = .ok (.aload_n 0, 1) := dk_42 (dk_at dksX1_readBody_0 14 rfl rfl)
theorem dX1_readBody_15 : decode cX1_readBody 15 = .ok (.iconst (-1), 1) := dk_2 (dk_at dksX1_readBody_0 15 rfl rfl)
theorem dX1_readBody_16 : decode cX1_readBody 16 = .ok (.putfield 54, 3) := dk_181 0 54 (dk_at dksX1_readBody_0 16 rfl rfl)
theorem dX1_readBody_19 : decode cX1_readBody 19 = .ok (.aload_n 0, 1) := dk_42 (dk_at dksX1_readBody_0 19 rfl rfl)
theorem dX1_readBody_20 : decode cX1_readBody 20 = .ok (.iconst 0, 1) := dk_3 (dk_at dksX1_readBody_0 20 rfl rfl)
theorem dX1_readBody_21 : decode cX1_readBody 21 = .ok (.putfield 62, 3) := dk_181 0 62 (dk_at dksX1_readBody_0 21 rfl rfl)
theorem dX1_readBody_24 : decode cX1_readBody 24 = .ok (.goto 30, 3) := dk_167 0 30 (dk_at dksX1_readBody_1 0 rfl rfl)
theorem dX1_readBody_27 : decode cX1_readBody 27 = .ok (.astore_n 3, 1) := dk_78 (dk_at dksX1_readBody_1 3 rfl rfl)
theorem dX1_readBody_28 : decode cX1_readBody 28 = .ok (.aload_n 0, 1) := dk_42 (dk_at dksX1_readBody_1 4 rfl rfl)
theorem dX1_readBody_29 : decode cX1_readBody 29 = .ok (.aload_n 3, 1) := dk_45 (dk_at dksX1_readBody_1 5 rfl rfl)
theorem dX1_readBody_30 : decode cX1_readBody 30 = .ok (.getfield 78, 3) := dk_180 0 78 (dk_at dksX1_readBody_1 6 rfl rfl)
theorem dX1_readBody_33 : decode cX1_readBody 33 = .ok (.putfield 54, 3) := dk_181 0 54 (dk_at dksX1_readBody_1 9 rfl rfl)
theorem dX1_readBody_36 : decode cX1_readBody 36 = .ok (.aload_n 0, 1) := dk_42 (dk_at dksX1_readBody_1 12 rfl rfl)
theorem dX1_readBody_37 : decode cX1_readBody 37 = .ok (.iconst 0, 1) := dk_3 (dk_at dksX1_readBody_1 13 rfl rfl)
theorem dX1_readBody_38 : decode cX1_readBody 38 = .ok (.putfield 62, 3) := dk_181 0 62 (dk_at dksX1_readBody_1 14 rfl rfl)
theorem dX1_readBody_41 : decode cX1_readBody 41 = .ok (.goto 13, 3) := dk_167 0 13 (dk_at dksX1_readBody_1 17 rfl rfl)
theorem dX1_readBody_44 : decode cX1_readBody 44 = .ok (.astore 4, 2) := dk_58 4 (dk_at dksX1_readBody_1 20 rfl rfl)
theorem dX1_readBody_46 : decode cX1_readBody 46 = .ok (.aload_n 0, 1) := dk_42 (dk_at dksX1_readBody_1 22 rfl rfl)
theorem dX1_readBody_47 : decode cX1_readBody 47 = .ok (.iconst 0, 1) := dk_3 (dk_at dksX1_readBody_1 23 rfl rfl)
theorem dX1_readBody_48 : decode cX1_readBody 48 = .ok (.putfield 62, 3) := dk_181 0 62 (dk_at dksX1_readBody_2 0 rfl rfl)
theorem dX1_readBody_51 : decode cX1_readBody 51 = .ok (.aload 4, 2) := dk_25 4 (dk_at dksX1_readBody_2 3 rfl rfl)
theorem dX1_readBody_53 : decode cX1_readBody 53 = .ok (.athrow, 1) := dk_191 (dk_at dksX1_readBody_2 5 rfl rfl)
theorem dX1_readBody_54 : decode cX1_readBody 54 = .ok (.aload_n 2, 1) := dk_44 (dk_at dksX1_readBody_2 6 rfl rfl)
theorem dX1_readBody_55 : decode cX1_readBody 55 = .ok (.getfield 81, 3) := dk_180 0 81 (dk_at dksX1_readBody_2 7 rfl rfl)
theorem dX1_readBody_58 : decode cX1_readBody 58 = .ok (.areturn, 1) := dk_176 (dk_at dksX1_readBody_2 10 rfl rfl)
abbrev cX1_count : ByteArray := prog_1_method_10_code
def yX1_count : MethodName := ⟨RX1, "count", "(Ljava/util/ArrayList;LPointerAnalyzer$Kind;)I"⟩
def dkwX1_count_1 : List UInt8 := [43, 166, 0, 7, 4, 167, 0, 4, 3, 96, 61, 132, 3, 1, 167, 255, 222, 28, 172]
abbrev dktX1_count_1 : List UInt8 := dkwX1_count_1 ++ []
def dkwX1_count_0 : List UInt8 := [3, 61, 3, 62, 29, 42, 182, 0, 19, 162, 0, 32, 28, 42, 29, 182, 0, 25, 192, 0, 29, 180, 0, 31]
abbrev dktX1_count_0 : List UInt8 := dkwX1_count_0 ++ dktX1_count_1
theorem dksX1_count_0 : cX1_count.data.toList.drop 0 = dktX1_count_0 := by decide +kernel
theorem dksX1_count_1 : cX1_count.data.toList.drop 24 = dktX1_count_1 := dk_seg dksX1_count_0 24 rfl rfl
theorem dX1_count_0 : decode cX1_count 0 = .ok (.iconst 0, 1) := dk_3 (dk_at dksX1_count_0 0 rfl rfl)
theorem dX1_count_1 : decode cX1_count 1 = .ok (.istore_n 2, 1) := dk_61 (dk_at dksX1_count_0 1 rfl rfl)
theorem dX1_count_2 : decode cX1_count 2 = .ok (.iconst 0, 1) := dk_3 (dk_at dksX1_count_0 2 rfl rfl)
theorem dX1_count_3 : decode cX1_count 3 = .ok (.istore_n 3, 1) := dk_62 (dk_at dksX1_count_0 3 rfl rfl)
theorem dX1_count_4 : decode cX1_count 4 = .ok (.iload_n 3, 1) := dk_29 (dk_at dksX1_count_0 4 rfl rfl)
theorem dX1_count_5 : decode cX1_count 5 = .ok (.aload_n 0, 1) := dk_42 (dk_at dksX1_count_0 5 rfl rfl)
theorem dX1_count_6 : decode cX1_count 6 = .ok (.invokevirtual 19, 3) := dk_182 0 19 (dk_at dksX1_count_0 6 rfl rfl)
theorem dX1_count_9 : decode cX1_count 9 = .ok (.if_icmp .ge 32, 3) := dk_162 0 32 (dk_at dksX1_count_0 9 rfl rfl)
theorem dX1_count_12 : decode cX1_count 12 = .ok (.iload_n 2, 1) := dk_28 (dk_at dksX1_count_0 12 rfl rfl)
theorem dX1_count_13 : decode cX1_count 13 = .ok (.aload_n 0, 1) := dk_42 (dk_at dksX1_count_0 13 rfl rfl)
theorem dX1_count_14 : decode cX1_count 14 = .ok (.iload_n 3, 1) := dk_29 (dk_at dksX1_count_0 14 rfl rfl)
theorem dX1_count_15 : decode cX1_count 15 = .ok (.invokevirtual 25, 3) := dk_182 0 25 (dk_at dksX1_count_0 15 rfl rfl)
theorem dX1_count_18 : decode cX1_count 18 = .ok (.checkcast 29, 3) := dk_192 0 29 (dk_at dksX1_count_0 18 rfl rfl)
theorem dX1_count_21 : decode cX1_count 21 = .ok (.getfield 31, 3) := dk_180 0 31 (dk_at dksX1_count_0 21 rfl rfl)
theorem dX1_count_24 : decode cX1_count 24 = .ok (.aload_n 1, 1) := dk_43 (dk_at dksX1_count_1 0 rfl rfl)
theorem dX1_count_25 : decode cX1_count 25 = .ok (.if_acmp .ne 7, 3) := dk_166 0 7 (dk_at dksX1_count_1 1 rfl rfl)
theorem dX1_count_28 : decode cX1_count 28 = .ok (.iconst 1, 1) := dk_4 (dk_at dksX1_count_1 4 rfl rfl)
theorem dX1_count_29 : decode cX1_count 29 = .ok (.goto 4, 3) := dk_167 0 4 (dk_at dksX1_count_1 5 rfl rfl)
theorem dX1_count_32 : decode cX1_count 32 = .ok (.iconst 0, 1) := dk_3 (dk_at dksX1_count_1 8 rfl rfl)
theorem dX1_count_33 : decode cX1_count 33 = .ok (.iadd, 1) := dk_96 (dk_at dksX1_count_1 9 rfl rfl)
theorem dX1_count_34 : decode cX1_count 34 = .ok (.istore_n 2, 1) := dk_61 (dk_at dksX1_count_1 10 rfl rfl)
theorem dX1_count_35 : decode cX1_count 35 = .ok (.iinc 3 1, 3) := dk_132 3 1 (dk_at dksX1_count_1 11 rfl rfl)
theorem dX1_count_38 : decode cX1_count 38 = .ok (.goto (-34), 3) := dk_167 255 222 (dk_at dksX1_count_1 14 rfl rfl)
theorem dX1_count_41 : decode cX1_count 41 = .ok (.iload_n 2, 1) := dk_28 (dk_at dksX1_count_1 17 rfl rfl)
theorem dX1_count_42 : decode cX1_count 42 = .ok (.ireturn, 1) := dk_172 (dk_at dksX1_count_1 18 rfl rfl)
abbrev cX1_setProgram : ByteArray := prog_1_method_14_code
def yX1_setProgram : MethodName := ⟨RX1, "setProgram", "(LPointerAnalyzer$Program;)V"⟩
def dkwX1_setProgram_0 : List UInt8 := [42, 43, 181, 0, 46, 42, 1, 181, 0, 85, 42, 1, 181, 0, 89, 177]
abbrev dktX1_setProgram_0 : List UInt8 := dkwX1_setProgram_0 ++ []
theorem dksX1_setProgram_0 : cX1_setProgram.data.toList.drop 0 = dktX1_setProgram_0 := by decide +kernel
theorem dX1_setProgram_0 : decode cX1_setProgram 0 = .ok (.aload_n 0, 1) := dk_42 (dk_at dksX1_setProgram_0 0 rfl rfl)
theorem dX1_setProgram_1 : decode cX1_setProgram 1 = .ok (.aload_n 1, 1) := dk_43 (dk_at dksX1_setProgram_0 1 rfl rfl)
theorem dX1_setProgram_2 : decode cX1_setProgram 2 = .ok (.putfield 46, 3) := dk_181 0 46 (dk_at dksX1_setProgram_0 2 rfl rfl)
theorem dX1_setProgram_5 : decode cX1_setProgram 5 = .ok (.aload_n 0, 1) := dk_42 (dk_at dksX1_setProgram_0 5 rfl rfl)
theorem dX1_setProgram_6 : decode cX1_setProgram 6 = .ok (.aconst_null, 1) := dk_1 (dk_at dksX1_setProgram_0 6 rfl rfl)
theorem dX1_setProgram_7 : decode cX1_setProgram 7 = .ok (.putfield 85, 3) := dk_181 0 85 (dk_at dksX1_setProgram_0 7 rfl rfl)
theorem dX1_setProgram_10 : decode cX1_setProgram 10 = .ok (.aload_n 0, 1) := dk_42 (dk_at dksX1_setProgram_0 10 rfl rfl)
theorem dX1_setProgram_11 : decode cX1_setProgram 11 = .ok (.aconst_null, 1) := dk_1 (dk_at dksX1_setProgram_0 11 rfl rfl)
theorem dX1_setProgram_12 : decode cX1_setProgram 12 = .ok (.putfield 89, 3) := dk_181 0 89 (dk_at dksX1_setProgram_0 12 rfl rfl)
theorem dX1_setProgram_15 : decode cX1_setProgram 15 = .ok (.return_, 1) := dk_177 (dk_at dksX1_setProgram_0 15 rfl rfl)
abbrev cX1_kind : ByteArray := prog_1_method_19_code
def yX1_kind : MethodName := ⟨RX1, "kind", "(I)I"⟩
def dkwX1_kind_0 : List UInt8 := [42, 27, 182, 0, 125, 180, 0, 129, 180, 0, 31, 182, 0, 133, 172]
abbrev dktX1_kind_0 : List UInt8 := dkwX1_kind_0 ++ []
theorem dksX1_kind_0 : cX1_kind.data.toList.drop 0 = dktX1_kind_0 := by decide +kernel
theorem dX1_kind_0 : decode cX1_kind 0 = .ok (.aload_n 0, 1) := dk_42 (dk_at dksX1_kind_0 0 rfl rfl)
theorem dX1_kind_1 : decode cX1_kind 1 = .ok (.iload_n 1, 1) := dk_27 (dk_at dksX1_kind_0 1 rfl rfl)
theorem dX1_kind_2 : decode cX1_kind 2 = .ok (.invokevirtual 125, 3) := dk_182 0 125 (dk_at dksX1_kind_0 2 rfl rfl)
theorem dX1_kind_5 : decode cX1_kind 5 = .ok (.getfield 129, 3) := dk_180 0 129 (dk_at dksX1_kind_0 5 rfl rfl)
theorem dX1_kind_8 : decode cX1_kind 8 = .ok (.getfield 31, 3) := dk_180 0 31 (dk_at dksX1_kind_0 8 rfl rfl)
theorem dX1_kind_11 : decode cX1_kind 11 = .ok (.invokevirtual 133, 3) := dk_182 0 133 (dk_at dksX1_kind_0 11 rfl rfl)
theorem dX1_kind_14 : decode cX1_kind 14 = .ok (.ireturn, 1) := dk_172 (dk_at dksX1_kind_0 14 rfl rfl)
abbrev cX1_statement : ByteArray := prog_1_method_18_code
def yX1_statement : MethodName := ⟨RX1, "statement", "(I)LPointerAnalyzer$Statement;"⟩
def dkwX1_statement_1 : List UInt8 := [180, 0, 120, 27, 182, 0, 25, 192, 0, 123, 176]
abbrev dktX1_statement_1 : List UInt8 := dkwX1_statement_1 ++ []
def dkwX1_statement_0 : List UInt8 := [27, 3, 42, 180, 0, 46, 180, 0, 120, 182, 0, 19, 4, 100, 184, 0, 15, 184, 0, 97, 42, 180, 0, 46]
abbrev dktX1_statement_0 : List UInt8 := dkwX1_statement_0 ++ dktX1_statement_1
theorem dksX1_statement_0 : cX1_statement.data.toList.drop 0 = dktX1_statement_0 := by decide +kernel
theorem dksX1_statement_1 : cX1_statement.data.toList.drop 24 = dktX1_statement_1 := dk_seg dksX1_statement_0 24 rfl rfl
theorem dX1_statement_0 : decode cX1_statement 0 = .ok (.iload_n 1, 1) := dk_27 (dk_at dksX1_statement_0 0 rfl rfl)
theorem dX1_statement_1 : decode cX1_statement 1 = .ok (.iconst 0, 1) := dk_3 (dk_at dksX1_statement_0 1 rfl rfl)
theorem dX1_statement_2 : decode cX1_statement 2 = .ok (.aload_n 0, 1) := dk_42 (dk_at dksX1_statement_0 2 rfl rfl)
theorem dX1_statement_3 : decode cX1_statement 3 = .ok (.getfield 46, 3) := dk_180 0 46 (dk_at dksX1_statement_0 3 rfl rfl)
theorem dX1_statement_6 : decode cX1_statement 6 = .ok (.getfield 120, 3) := dk_180 0 120 (dk_at dksX1_statement_0 6 rfl rfl)
theorem dX1_statement_9 : decode cX1_statement 9 = .ok (.invokevirtual 19, 3) := dk_182 0 19 (dk_at dksX1_statement_0 9 rfl rfl)
theorem dX1_statement_12 : decode cX1_statement 12 = .ok (.iconst 1, 1) := dk_4 (dk_at dksX1_statement_0 12 rfl rfl)
theorem dX1_statement_13 : decode cX1_statement 13 = .ok (.isub, 1) := dk_100 (dk_at dksX1_statement_0 13 rfl rfl)
theorem dX1_statement_14 : decode cX1_statement 14 = .ok (.invokestatic 15, 3) := dk_184 0 15 (dk_at dksX1_statement_0 14 rfl rfl)
theorem dX1_statement_17 : decode cX1_statement 17 = .ok (.invokestatic 97, 3) := dk_184 0 97 (dk_at dksX1_statement_0 17 rfl rfl)
theorem dX1_statement_20 : decode cX1_statement 20 = .ok (.aload_n 0, 1) := dk_42 (dk_at dksX1_statement_0 20 rfl rfl)
theorem dX1_statement_21 : decode cX1_statement 21 = .ok (.getfield 46, 3) := dk_180 0 46 (dk_at dksX1_statement_0 21 rfl rfl)
theorem dX1_statement_24 : decode cX1_statement 24 = .ok (.getfield 120, 3) := dk_180 0 120 (dk_at dksX1_statement_1 0 rfl rfl)
theorem dX1_statement_27 : decode cX1_statement 27 = .ok (.iload_n 1, 1) := dk_27 (dk_at dksX1_statement_1 3 rfl rfl)
theorem dX1_statement_28 : decode cX1_statement 28 = .ok (.invokevirtual 25, 3) := dk_182 0 25 (dk_at dksX1_statement_1 4 rfl rfl)
theorem dX1_statement_31 : decode cX1_statement 31 = .ok (.checkcast 123, 3) := dk_192 0 123 (dk_at dksX1_statement_1 7 rfl rfl)
theorem dX1_statement_34 : decode cX1_statement 34 = .ok (.areturn, 1) := dk_176 (dk_at dksX1_statement_1 10 rfl rfl)
abbrev cX1_functionOf : ByteArray := prog_1_method_20_code
def yX1_functionOf : MethodName := ⟨RX1, "functionOf", "(I)I"⟩
def dkwX1_functionOf_0 : List UInt8 := [42, 27, 182, 0, 125, 180, 0, 136, 172]
abbrev dktX1_functionOf_0 : List UInt8 := dkwX1_functionOf_0 ++ []
theorem dksX1_functionOf_0 : cX1_functionOf.data.toList.drop 0 = dktX1_functionOf_0 := by decide +kernel
theorem dX1_functionOf_0 : decode cX1_functionOf 0 = .ok (.aload_n 0, 1) := dk_42 (dk_at dksX1_functionOf_0 0 rfl rfl)
theorem dX1_functionOf_1 : decode cX1_functionOf 1 = .ok (.iload_n 1, 1) := dk_27 (dk_at dksX1_functionOf_0 1 rfl rfl)
theorem dX1_functionOf_2 : decode cX1_functionOf 2 = .ok (.invokevirtual 125, 3) := dk_182 0 125 (dk_at dksX1_functionOf_0 2 rfl rfl)
theorem dX1_functionOf_5 : decode cX1_functionOf 5 = .ok (.getfield 136, 3) := dk_180 0 136 (dk_at dksX1_functionOf_0 5 rfl rfl)
theorem dX1_functionOf_8 : decode cX1_functionOf 8 = .ok (.ireturn, 1) := dk_172 (dk_at dksX1_functionOf_0 8 rfl rfl)
abbrev cX1_setLimit : ByteArray := prog_1_method_22_code
def yX1_setLimit : MethodName := ⟨RX1, "setLimit", "(I)I"⟩
def dkwX1_setLimit_1 : List UInt8 := [28, 172]
abbrev dktX1_setLimit_1 : List UInt8 := dkwX1_setLimit_1 ++ []
def dkwX1_setLimit_0 : List UInt8 := [27, 3, 5, 184, 0, 15, 184, 0, 58, 42, 180, 0, 142, 61, 42, 27, 181, 0, 142, 42, 1, 181, 0, 85]
abbrev dktX1_setLimit_0 : List UInt8 := dkwX1_setLimit_0 ++ dktX1_setLimit_1
theorem dksX1_setLimit_0 : cX1_setLimit.data.toList.drop 0 = dktX1_setLimit_0 := by decide +kernel
theorem dksX1_setLimit_1 : cX1_setLimit.data.toList.drop 24 = dktX1_setLimit_1 := dk_seg dksX1_setLimit_0 24 rfl rfl
theorem dX1_setLimit_0 : decode cX1_setLimit 0 = .ok (.iload_n 1, 1) := dk_27 (dk_at dksX1_setLimit_0 0 rfl rfl)
theorem dX1_setLimit_1 : decode cX1_setLimit 1 = .ok (.iconst 0, 1) := dk_3 (dk_at dksX1_setLimit_0 1 rfl rfl)
theorem dX1_setLimit_2 : decode cX1_setLimit 2 = .ok (.iconst 2, 1) := dk_5 (dk_at dksX1_setLimit_0 2 rfl rfl)
theorem dX1_setLimit_3 : decode cX1_setLimit 3 = .ok (.invokestatic 15, 3) := dk_184 0 15 (dk_at dksX1_setLimit_0 3 rfl rfl)
theorem dX1_setLimit_6 : decode cX1_setLimit 6 = .ok (.invokestatic 58, 3) := dk_184 0 58 (dk_at dksX1_setLimit_0 6 rfl rfl)
theorem dX1_setLimit_9 : decode cX1_setLimit 9 = .ok (.aload_n 0, 1) := dk_42 (dk_at dksX1_setLimit_0 9 rfl rfl)
theorem dX1_setLimit_10 : decode cX1_setLimit 10 = .ok (.getfield 142, 3) := dk_180 0 142 (dk_at dksX1_setLimit_0 10 rfl rfl)
theorem dX1_setLimit_13 : decode cX1_setLimit 13 = .ok (.istore_n 2, 1) := dk_61 (dk_at dksX1_setLimit_0 13 rfl rfl)
theorem dX1_setLimit_14 : decode cX1_setLimit 14 = .ok (.aload_n 0, 1) := dk_42 (dk_at dksX1_setLimit_0 14 rfl rfl)
theorem dX1_setLimit_15 : decode cX1_setLimit 15 = .ok (.iload_n 1, 1) := dk_27 (dk_at dksX1_setLimit_0 15 rfl rfl)
theorem dX1_setLimit_16 : decode cX1_setLimit 16 = .ok (.putfield 142, 3) := dk_181 0 142 (dk_at dksX1_setLimit_0 16 rfl rfl)
theorem dX1_setLimit_19 : decode cX1_setLimit 19 = .ok (.aload_n 0, 1) := dk_42 (dk_at dksX1_setLimit_0 19 rfl rfl)
theorem dX1_setLimit_20 : decode cX1_setLimit 20 = .ok (.aconst_null, 1) := dk_1 (dk_at dksX1_setLimit_0 20 rfl rfl)
theorem dX1_setLimit_21 : decode cX1_setLimit 21 = .ok (.putfield 85, 3) := dk_181 0 85 (dk_at dksX1_setLimit_0 21 rfl rfl)
theorem dX1_setLimit_24 : decode cX1_setLimit 24 = .ok (.iload_n 2, 1) := dk_28 (dk_at dksX1_setLimit_1 0 rfl rfl)
theorem dX1_setLimit_25 : decode cX1_setLimit 25 = .ok (.ireturn, 1) := dk_172 (dk_at dksX1_setLimit_1 1 rfl rfl)
abbrev cX1_contextCount : ByteArray := prog_1_method_24_code
def yX1_contextCount : MethodName := ⟨RX1, "contextCount", "(I)I"⟩
def dkwX1_contextCount_0 : List UInt8 := [27, 184, 0, 93, 184, 0, 97, 42, 182, 0, 150, 180, 0, 154, 27, 182, 0, 158, 172]
abbrev dktX1_contextCount_0 : List UInt8 := dkwX1_contextCount_0 ++ []
theorem dksX1_contextCount_0 : cX1_contextCount.data.toList.drop 0 = dktX1_contextCount_0 := by decide +kernel
theorem dX1_contextCount_0 : decode cX1_contextCount 0 = .ok (.iload_n 1, 1) := dk_27 (dk_at dksX1_contextCount_0 0 rfl rfl)
theorem dX1_contextCount_1 : decode cX1_contextCount 1 = .ok (.invokestatic 93, 3) := dk_184 0 93 (dk_at dksX1_contextCount_0 1 rfl rfl)
theorem dX1_contextCount_4 : decode cX1_contextCount 4 = .ok (.invokestatic 97, 3) := dk_184 0 97 (dk_at dksX1_contextCount_0 4 rfl rfl)
theorem dX1_contextCount_7 : decode cX1_contextCount 7 = .ok (.aload_n 0, 1) := dk_42 (dk_at dksX1_contextCount_0 7 rfl rfl)
theorem dX1_contextCount_8 : decode cX1_contextCount 8 = .ok (.invokevirtual 150, 3) := dk_182 0 150 (dk_at dksX1_contextCount_0 8 rfl rfl)
theorem dX1_contextCount_11 : decode cX1_contextCount 11 = .ok (.getfield 154, 3) := dk_180 0 154 (dk_at dksX1_contextCount_0 11 rfl rfl)
theorem dX1_contextCount_14 : decode cX1_contextCount 14 = .ok (.iload_n 1, 1) := dk_27 (dk_at dksX1_contextCount_0 14 rfl rfl)
theorem dX1_contextCount_15 : decode cX1_contextCount 15 = .ok (.invokevirtual 158, 3) := dk_182 0 158 (dk_at dksX1_contextCount_0 15 rfl rfl)
theorem dX1_contextCount_18 : decode cX1_contextCount 18 = .ok (.ireturn, 1) := dk_172 (dk_at dksX1_contextCount_0 18 rfl rfl)
abbrev cX1_contextLength : ByteArray := prog_1_method_26_code
def yX1_contextLength : MethodName := ⟨RX1, "contextLength", "(II)I"⟩
def dkwX1_contextLength_0 : List UInt8 := [42, 27, 28, 182, 0, 169, 180, 0, 173, 190, 172]
abbrev dktX1_contextLength_0 : List UInt8 := dkwX1_contextLength_0 ++ []
theorem dksX1_contextLength_0 : cX1_contextLength.data.toList.drop 0 = dktX1_contextLength_0 := by decide +kernel
theorem dX1_contextLength_0 : decode cX1_contextLength 0 = .ok (.aload_n 0, 1) := dk_42 (dk_at dksX1_contextLength_0 0 rfl rfl)
theorem dX1_contextLength_1 : decode cX1_contextLength 1 = .ok (.iload_n 1, 1) := dk_27 (dk_at dksX1_contextLength_0 1 rfl rfl)
theorem dX1_contextLength_2 : decode cX1_contextLength 2 = .ok (.iload_n 2, 1) := dk_28 (dk_at dksX1_contextLength_0 2 rfl rfl)
theorem dX1_contextLength_3 : decode cX1_contextLength 3 = .ok (.invokevirtual 169, 3) := dk_182 0 169 (dk_at dksX1_contextLength_0 3 rfl rfl)
theorem dX1_contextLength_6 : decode cX1_contextLength 6 = .ok (.getfield 173, 3) := dk_180 0 173 (dk_at dksX1_contextLength_0 6 rfl rfl)
theorem dX1_contextLength_9 : decode cX1_contextLength 9 = .ok (.arraylength, 1) := dk_190 (dk_at dksX1_contextLength_0 9 rfl rfl)
theorem dX1_contextLength_10 : decode cX1_contextLength 10 = .ok (.ireturn, 1) := dk_172 (dk_at dksX1_contextLength_0 10 rfl rfl)
abbrev cX1_context : ByteArray := prog_1_method_25_code
def yX1_context : MethodName := ⟨RX1, "context", "(II)LPointerAnalyzer$Context;"⟩
def dkwX1_context_2 : List UInt8 := [27, 182, 0, 25, 192, 0, 20, 28, 182, 0, 25, 192, 0, 167, 176]
abbrev dktX1_context_2 : List UInt8 := dkwX1_context_2 ++ []
def dkwX1_context_1 : List UInt8 := [184, 0, 15, 153, 0, 7, 4, 167, 0, 4, 3, 184, 0, 97, 42, 182, 0, 150, 180, 0, 154, 180, 0, 164]
abbrev dktX1_context_1 : List UInt8 := dkwX1_context_1 ++ dktX1_context_2
def dkwX1_context_0 : List UInt8 := [27, 184, 0, 93, 153, 0, 28, 28, 3, 42, 182, 0, 150, 180, 0, 154, 27, 182, 0, 158, 4, 100]
abbrev dktX1_context_0 : List UInt8 := dkwX1_context_0 ++ dktX1_context_1
theorem dksX1_context_0 : cX1_context.data.toList.drop 0 = dktX1_context_0 := by decide +kernel
theorem dksX1_context_1 : cX1_context.data.toList.drop 22 = dktX1_context_1 := dk_seg dksX1_context_0 22 rfl rfl
theorem dksX1_context_2 : cX1_context.data.toList.drop 46 = dktX1_context_2 := dk_seg dksX1_context_1 24 rfl rfl
theorem dX1_context_0 : decode cX1_context 0 = .ok (.iload_n 1, 1) := dk_27 (dk_at dksX1_context_0 0 rfl rfl)
theorem dX1_context_1 : decode cX1_context 1 = .ok (.invokestatic 93, 3) := dk_184 0 93 (dk_at dksX1_context_0 1 rfl rfl)
theorem dX1_context_4 : decode cX1_context 4 = .ok (.ifCond .eq 28, 3) := dk_153 0 28 (dk_at dksX1_context_0 4 rfl rfl)
theorem dX1_context_7 : decode cX1_context 7 = .ok (.iload_n 2, 1) := dk_28 (dk_at dksX1_context_0 7 rfl rfl)
theorem dX1_context_8 : decode cX1_context 8 = .ok (.iconst 0, 1) := dk_3 (dk_at dksX1_context_0 8 rfl rfl)
theorem dX1_context_9 : decode cX1_context 9 = .ok (.aload_n 0, 1) := dk_42 (dk_at dksX1_context_0 9 rfl rfl)
theorem dX1_context_10 : decode cX1_context 10 = .ok (.invokevirtual 150, 3) := dk_182 0 150 (dk_at dksX1_context_0 10 rfl rfl)
theorem dX1_context_13 : decode cX1_context 13 = .ok (.getfield 154, 3) := dk_180 0 154 (dk_at dksX1_context_0 13 rfl rfl)
theorem dX1_context_16 : decode cX1_context 16 = .ok (.iload_n 1, 1) := dk_27 (dk_at dksX1_context_0 16 rfl rfl)
theorem dX1_context_17 : decode cX1_context 17 = .ok (.invokevirtual 158, 3) := dk_182 0 158 (dk_at dksX1_context_0 17 rfl rfl)
theorem dX1_context_20 : decode cX1_context 20 = .ok (.iconst 1, 1) := dk_4 (dk_at dksX1_context_0 20 rfl rfl)
theorem dX1_context_21 : decode cX1_context 21 = .ok (.isub, 1) := dk_100 (dk_at dksX1_context_0 21 rfl rfl)
theorem dX1_context_22 : decode cX1_context 22 = .ok (.invokestatic 15, 3) := dk_184 0 15 (dk_at dksX1_context_1 0 rfl rfl)
theorem dX1_context_25 : decode cX1_context 25 = .ok (.ifCond .eq 7, 3) := dk_153 0 7 (dk_at dksX1_context_1 3 rfl rfl)
theorem dX1_context_28 : decode cX1_context 28 = .ok (.iconst 1, 1) := dk_4 (dk_at dksX1_context_1 6 rfl rfl)
theorem dX1_context_29 : decode cX1_context 29 = .ok (.goto 4, 3) := dk_167 0 4 (dk_at dksX1_context_1 7 rfl rfl)
theorem dX1_context_32 : decode cX1_context 32 = .ok (.iconst 0, 1) := dk_3 (dk_at dksX1_context_1 10 rfl rfl)
theorem dX1_context_33 : decode cX1_context 33 = .ok (.invokestatic 97, 3) := dk_184 0 97 (dk_at dksX1_context_1 11 rfl rfl)
theorem dX1_context_36 : decode cX1_context 36 = .ok (.aload_n 0, 1) := dk_42 (dk_at dksX1_context_1 14 rfl rfl)
theorem dX1_context_37 : decode cX1_context 37 = .ok (.invokevirtual 150, 3) := dk_182 0 150 (dk_at dksX1_context_1 15 rfl rfl)
theorem dX1_context_40 : decode cX1_context 40 = .ok (.getfield 154, 3) := dk_180 0 154 (dk_at dksX1_context_1 18 rfl rfl)
theorem dX1_context_43 : decode cX1_context 43 = .ok (.getfield 164, 3) := dk_180 0 164 (dk_at dksX1_context_1 21 rfl rfl)
theorem dX1_context_46 : decode cX1_context 46 = .ok (.iload_n 1, 1) := dk_27 (dk_at dksX1_context_2 0 rfl rfl)
theorem dX1_context_47 : decode cX1_context 47 = .ok (.invokevirtual 25, 3) := dk_182 0 25 (dk_at dksX1_context_2 1 rfl rfl)
theorem dX1_context_50 : decode cX1_context 50 = .ok (.checkcast 20, 3) := dk_192 0 20 (dk_at dksX1_context_2 4 rfl rfl)
theorem dX1_context_53 : decode cX1_context 53 = .ok (.iload_n 2, 1) := dk_28 (dk_at dksX1_context_2 7 rfl rfl)
theorem dX1_context_54 : decode cX1_context 54 = .ok (.invokevirtual 25, 3) := dk_182 0 25 (dk_at dksX1_context_2 8 rfl rfl)
theorem dX1_context_57 : decode cX1_context 57 = .ok (.checkcast 167, 3) := dk_192 0 167 (dk_at dksX1_context_2 11 rfl rfl)
theorem dX1_context_60 : decode cX1_context 60 = .ok (.areturn, 1) := dk_176 (dk_at dksX1_context_2 14 rfl rfl)
abbrev cX1_contextCall : ByteArray := prog_1_method_27_code
def yX1_contextCall : MethodName := ⟨RX1, "contextCall", "(III)I"⟩
def dkwX1_contextCall_1 : List UInt8 := [25, 4, 180, 0, 173, 29, 46, 172]
abbrev dktX1_contextCall_1 : List UInt8 := dkwX1_contextCall_1 ++ []
def dkwX1_contextCall_0 : List UInt8 := [42, 27, 28, 182, 0, 169, 58, 4, 29, 3, 25, 4, 180, 0, 173, 190, 4, 100, 184, 0, 15, 184, 0, 97]
abbrev dktX1_contextCall_0 : List UInt8 := dkwX1_contextCall_0 ++ dktX1_contextCall_1
theorem dksX1_contextCall_0 : cX1_contextCall.data.toList.drop 0 = dktX1_contextCall_0 := by decide +kernel
theorem dksX1_contextCall_1 : cX1_contextCall.data.toList.drop 24 = dktX1_contextCall_1 := dk_seg dksX1_contextCall_0 24 rfl rfl
theorem dX1_contextCall_0 : decode cX1_contextCall 0 = .ok (.aload_n 0, 1) := dk_42 (dk_at dksX1_contextCall_0 0 rfl rfl)
theorem dX1_contextCall_1 : decode cX1_contextCall 1 = .ok (.iload_n 1, 1) := dk_27 (dk_at dksX1_contextCall_0 1 rfl rfl)
theorem dX1_contextCall_2 : decode cX1_contextCall 2 = .ok (.iload_n 2, 1) := dk_28 (dk_at dksX1_contextCall_0 2 rfl rfl)
theorem dX1_contextCall_3 : decode cX1_contextCall 3 = .ok (.invokevirtual 169, 3) := dk_182 0 169 (dk_at dksX1_contextCall_0 3 rfl rfl)
theorem dX1_contextCall_6 : decode cX1_contextCall 6 = .ok (.astore 4, 2) := dk_58 4 (dk_at dksX1_contextCall_0 6 rfl rfl)
theorem dX1_contextCall_8 : decode cX1_contextCall 8 = .ok (.iload_n 3, 1) := dk_29 (dk_at dksX1_contextCall_0 8 rfl rfl)
theorem dX1_contextCall_9 : decode cX1_contextCall 9 = .ok (.iconst 0, 1) := dk_3 (dk_at dksX1_contextCall_0 9 rfl rfl)
theorem dX1_contextCall_10 : decode cX1_contextCall 10 = .ok (.aload 4, 2) := dk_25 4 (dk_at dksX1_contextCall_0 10 rfl rfl)
theorem dX1_contextCall_12 : decode cX1_contextCall 12 = .ok (.getfield 173, 3) := dk_180 0 173 (dk_at dksX1_contextCall_0 12 rfl rfl)
theorem dX1_contextCall_15 : decode cX1_contextCall 15 = .ok (.arraylength, 1) := dk_190 (dk_at dksX1_contextCall_0 15 rfl rfl)
theorem dX1_contextCall_16 : decode cX1_contextCall 16 = .ok (.iconst 1, 1) := dk_4 (dk_at dksX1_contextCall_0 16 rfl rfl)
theorem dX1_contextCall_17 : decode cX1_contextCall 17 = .ok (.isub, 1) := dk_100 (dk_at dksX1_contextCall_0 17 rfl rfl)
theorem dX1_contextCall_18 : decode cX1_contextCall 18 = .ok (.invokestatic 15, 3) := dk_184 0 15 (dk_at dksX1_contextCall_0 18 rfl rfl)
theorem dX1_contextCall_21 : decode cX1_contextCall 21 = .ok (.invokestatic 97, 3) := dk_184 0 97 (dk_at dksX1_contextCall_0 21 rfl rfl)
theorem dX1_contextCall_24 : decode cX1_contextCall 24 = .ok (.aload 4, 2) := dk_25 4 (dk_at dksX1_contextCall_1 0 rfl rfl)
theorem dX1_contextCall_26 : decode cX1_contextCall 26 = .ok (.getfield 173, 3) := dk_180 0 173 (dk_at dksX1_contextCall_1 2 rfl rfl)
theorem dX1_contextCall_29 : decode cX1_contextCall 29 = .ok (.iload_n 3, 1) := dk_29 (dk_at dksX1_contextCall_1 5 rfl rfl)
theorem dX1_contextCall_30 : decode cX1_contextCall 30 = .ok (.iaload, 1) := dk_46 (dk_at dksX1_contextCall_1 6 rfl rfl)
theorem dX1_contextCall_31 : decode cX1_contextCall 31 = .ok (.ireturn, 1) := dk_172 (dk_at dksX1_contextCall_1 7 rfl rfl)
abbrev cX1_pointsTo : ByteArray := prog_1_method_28_code
def yX1_pointsTo : MethodName := ⟨RX1, "pointsTo", "(I)J"⟩
def dkwX1_pointsTo_0 : List UInt8 := [27, 184, 0, 177, 184, 0, 97, 42, 182, 0, 150, 27, 182, 0, 180, 173]
abbrev dktX1_pointsTo_0 : List UInt8 := dkwX1_pointsTo_0 ++ []
theorem dksX1_pointsTo_0 : cX1_pointsTo.data.toList.drop 0 = dktX1_pointsTo_0 := by decide +kernel
theorem dX1_pointsTo_0 : decode cX1_pointsTo 0 = .ok (.iload_n 1, 1) := dk_27 (dk_at dksX1_pointsTo_0 0 rfl rfl)
theorem dX1_pointsTo_1 : decode cX1_pointsTo 1 = .ok (.invokestatic 177, 3) := dk_184 0 177 (dk_at dksX1_pointsTo_0 1 rfl rfl)
theorem dX1_pointsTo_4 : decode cX1_pointsTo 4 = .ok (.invokestatic 97, 3) := dk_184 0 97 (dk_at dksX1_pointsTo_0 4 rfl rfl)
theorem dX1_pointsTo_7 : decode cX1_pointsTo 7 = .ok (.aload_n 0, 1) := dk_42 (dk_at dksX1_pointsTo_0 7 rfl rfl)
theorem dX1_pointsTo_8 : decode cX1_pointsTo 8 = .ok (.invokevirtual 150, 3) := dk_182 0 150 (dk_at dksX1_pointsTo_0 8 rfl rfl)
theorem dX1_pointsTo_11 : decode cX1_pointsTo 11 = .ok (.iload_n 1, 1) := dk_27 (dk_at dksX1_pointsTo_0 11 rfl rfl)
theorem dX1_pointsTo_12 : decode cX1_pointsTo 12 = .ok (.invokevirtual 180, 3) := dk_182 0 180 (dk_at dksX1_pointsTo_0 12 rfl rfl)
theorem dX1_pointsTo_15 : decode cX1_pointsTo 15 = .ok (.lreturn, 1) := dk_173 (dk_at dksX1_pointsTo_0 15 rfl rfl)
abbrev cX1_isVariable : ByteArray := prog_1_method_6_code
def yX1_isVariable : MethodName := ⟨RX1, "isVariable", "(I)Z"⟩
def dkwX1_isVariable_0 : List UInt8 := [26, 3, 16, 19, 184, 0, 15, 172]
abbrev dktX1_isVariable_0 : List UInt8 := dkwX1_isVariable_0 ++ []
theorem dksX1_isVariable_0 : cX1_isVariable.data.toList.drop 0 = dktX1_isVariable_0 := by decide +kernel
theorem dX1_isVariable_0 : decode cX1_isVariable 0 = .ok (.iload_n 0, 1) := dk_26 (dk_at dksX1_isVariable_0 0 rfl rfl)
theorem dX1_isVariable_1 : decode cX1_isVariable 1 = .ok (.iconst 0, 1) := dk_3 (dk_at dksX1_isVariable_0 1 rfl rfl)
theorem dX1_isVariable_2 : decode cX1_isVariable 2 = .ok (.bipush 19, 2) := dk_16 19 (dk_at dksX1_isVariable_0 2 rfl rfl)
theorem dX1_isVariable_4 : decode cX1_isVariable 4 = .ok (.invokestatic 15, 3) := dk_184 0 15 (dk_at dksX1_isVariable_0 4 rfl rfl)
theorem dX1_isVariable_7 : decode cX1_isVariable 7 = .ok (.ireturn, 1) := dk_172 (dk_at dksX1_isVariable_0 7 rfl rfl)
abbrev cX1_pointsToIn : ByteArray := prog_1_method_29_code
def yX1_pointsToIn : MethodName := ⟨RX1, "pointsToIn", "(II)J"⟩
def dkwX1_pointsToIn_2 : List UInt8 := [182, 0, 150, 27, 28, 182, 0, 187, 182, 0, 191, 173]
abbrev dktX1_pointsToIn_2 : List UInt8 := dkwX1_pointsToIn_2 ++ []
def dkwX1_pointsToIn_1 : List UInt8 := [182, 0, 150, 180, 0, 154, 29, 182, 0, 158, 4, 100, 184, 0, 15, 184, 0, 97, 42, 182, 0, 150, 42]
abbrev dktX1_pointsToIn_1 : List UInt8 := dkwX1_pointsToIn_1 ++ dktX1_pointsToIn_2
def dkwX1_pointsToIn_0 : List UInt8 := [27, 184, 0, 177, 184, 0, 97, 27, 184, 0, 184, 62, 28, 3, 29, 156, 0, 7, 3, 167, 0, 16, 42]
abbrev dktX1_pointsToIn_0 : List UInt8 := dkwX1_pointsToIn_0 ++ dktX1_pointsToIn_1
theorem dksX1_pointsToIn_0 : cX1_pointsToIn.data.toList.drop 0 = dktX1_pointsToIn_0 := by decide +kernel
theorem dksX1_pointsToIn_1 : cX1_pointsToIn.data.toList.drop 23 = dktX1_pointsToIn_1 := dk_seg dksX1_pointsToIn_0 23 rfl rfl
theorem dksX1_pointsToIn_2 : cX1_pointsToIn.data.toList.drop 46 = dktX1_pointsToIn_2 := dk_seg dksX1_pointsToIn_1 23 rfl rfl
theorem dX1_pointsToIn_0 : decode cX1_pointsToIn 0 = .ok (.iload_n 1, 1) := dk_27 (dk_at dksX1_pointsToIn_0 0 rfl rfl)
theorem dX1_pointsToIn_1 : decode cX1_pointsToIn 1 = .ok (.invokestatic 177, 3) := dk_184 0 177 (dk_at dksX1_pointsToIn_0 1 rfl rfl)
theorem dX1_pointsToIn_4 : decode cX1_pointsToIn 4 = .ok (.invokestatic 97, 3) := dk_184 0 97 (dk_at dksX1_pointsToIn_0 4 rfl rfl)
theorem dX1_pointsToIn_7 : decode cX1_pointsToIn 7 = .ok (.iload_n 1, 1) := dk_27 (dk_at dksX1_pointsToIn_0 7 rfl rfl)
theorem dX1_pointsToIn_8 : decode cX1_pointsToIn 8 = .ok (.invokestatic 184, 3) := dk_184 0 184 (dk_at dksX1_pointsToIn_0 8 rfl rfl)
theorem dX1_pointsToIn_11 : decode cX1_pointsToIn 11 = .ok (.istore_n 3, 1) := dk_62 (dk_at dksX1_pointsToIn_0 11 rfl rfl)
theorem dX1_pointsToIn_12 : decode cX1_pointsToIn 12 = .ok (.iload_n 2, 1) := dk_28 (dk_at dksX1_pointsToIn_0 12 rfl rfl)
theorem dX1_pointsToIn_13 : decode cX1_pointsToIn 13 = .ok (.iconst 0, 1) := dk_3 (dk_at dksX1_pointsToIn_0 13 rfl rfl)
theorem dX1_pointsToIn_14 : decode cX1_pointsToIn 14 = .ok (.iload_n 3, 1) := dk_29 (dk_at dksX1_pointsToIn_0 14 rfl rfl)
theorem dX1_pointsToIn_15 : decode cX1_pointsToIn 15 = .ok (.ifCond .ge 7, 3) := dk_156 0 7 (dk_at dksX1_pointsToIn_0 15 rfl rfl)
theorem dX1_pointsToIn_18 : decode cX1_pointsToIn 18 = .ok (.iconst 0, 1) := dk_3 (dk_at dksX1_pointsToIn_0 18 rfl rfl)
theorem dX1_pointsToIn_19 : decode cX1_pointsToIn 19 = .ok (.goto 16, 3) := dk_167 0 16 (dk_at dksX1_pointsToIn_0 19 rfl rfl)
theorem dX1_pointsToIn_22 : decode cX1_pointsToIn 22 = .ok (.aload_n 0, 1) := dk_42 (dk_at dksX1_pointsToIn_0 22 rfl rfl)
theorem dX1_pointsToIn_23 : decode cX1_pointsToIn 23 = .ok (.invokevirtual 150, 3) := dk_182 0 150 (dk_at dksX1_pointsToIn_1 0 rfl rfl)
theorem dX1_pointsToIn_26 : decode cX1_pointsToIn 26 = .ok (.getfield 154, 3) := dk_180 0 154 (dk_at dksX1_pointsToIn_1 3 rfl rfl)
theorem dX1_pointsToIn_29 : decode cX1_pointsToIn 29 = .ok (.iload_n 3, 1) := dk_29 (dk_at dksX1_pointsToIn_1 6 rfl rfl)
theorem dX1_pointsToIn_30 : decode cX1_pointsToIn 30 = .ok (.invokevirtual 158, 3) := dk_182 0 158 (dk_at dksX1_pointsToIn_1 7 rfl rfl)
theorem dX1_pointsToIn_33 : decode cX1_pointsToIn 33 = .ok (.iconst 1, 1) := dk_4 (dk_at dksX1_pointsToIn_1 10 rfl rfl)
theorem dX1_pointsToIn_34 : decode cX1_pointsToIn 34 = .ok (.isub, 1) := dk_100 (dk_at dksX1_pointsToIn_1 11 rfl rfl)
theorem dX1_pointsToIn_35 : decode cX1_pointsToIn 35 = .ok (.invokestatic 15, 3) := dk_184 0 15 (dk_at dksX1_pointsToIn_1 12 rfl rfl)
theorem dX1_pointsToIn_38 : decode cX1_pointsToIn 38 = .ok (.invokestatic 97, 3) := dk_184 0 97 (dk_at dksX1_pointsToIn_1 15 rfl rfl)
theorem dX1_pointsToIn_41 : decode cX1_pointsToIn 41 = .ok (.aload_n 0, 1) := dk_42 (dk_at dksX1_pointsToIn_1 18 rfl rfl)
theorem dX1_pointsToIn_42 : decode cX1_pointsToIn 42 = .ok (.invokevirtual 150, 3) := dk_182 0 150 (dk_at dksX1_pointsToIn_1 19 rfl rfl)
theorem dX1_pointsToIn_45 : decode cX1_pointsToIn 45 = .ok (.aload_n 0, 1) := dk_42 (dk_at dksX1_pointsToIn_1 22 rfl rfl)
theorem dX1_pointsToIn_46 : decode cX1_pointsToIn 46 = .ok (.invokevirtual 150, 3) := dk_182 0 150 (dk_at dksX1_pointsToIn_2 0 rfl rfl)
theorem dX1_pointsToIn_49 : decode cX1_pointsToIn 49 = .ok (.iload_n 1, 1) := dk_27 (dk_at dksX1_pointsToIn_2 3 rfl rfl)
theorem dX1_pointsToIn_50 : decode cX1_pointsToIn 50 = .ok (.iload_n 2, 1) := dk_28 (dk_at dksX1_pointsToIn_2 4 rfl rfl)
theorem dX1_pointsToIn_51 : decode cX1_pointsToIn 51 = .ok (.invokevirtual 187, 3) := dk_182 0 187 (dk_at dksX1_pointsToIn_2 5 rfl rfl)
theorem dX1_pointsToIn_54 : decode cX1_pointsToIn 54 = .ok (.invokevirtual 191, 3) := dk_182 0 191 (dk_at dksX1_pointsToIn_2 8 rfl rfl)
theorem dX1_pointsToIn_57 : decode cX1_pointsToIn 57 = .ok (.lreturn, 1) := dk_173 (dk_at dksX1_pointsToIn_2 11 rfl rfl)
abbrev cX1_fieldPointsTo : ByteArray := prog_1_method_31_code
def yX1_fieldPointsTo : MethodName := ⟨RX1, "fieldPointsTo", "(II)J"⟩
def dkwX1_fieldPointsTo_0 : List UInt8 := [42, 182, 0, 150, 42, 27, 28, 182, 0, 199, 182, 0, 180, 173]
abbrev dktX1_fieldPointsTo_0 : List UInt8 := dkwX1_fieldPointsTo_0 ++ []
theorem dksX1_fieldPointsTo_0 : cX1_fieldPointsTo.data.toList.drop 0 = dktX1_fieldPointsTo_0 := by decide +kernel
theorem dX1_fieldPointsTo_0 : decode cX1_fieldPointsTo 0 = .ok (.aload_n 0, 1) := dk_42 (dk_at dksX1_fieldPointsTo_0 0 rfl rfl)
theorem dX1_fieldPointsTo_1 : decode cX1_fieldPointsTo 1 = .ok (.invokevirtual 150, 3) := dk_182 0 150 (dk_at dksX1_fieldPointsTo_0 1 rfl rfl)
theorem dX1_fieldPointsTo_4 : decode cX1_fieldPointsTo 4 = .ok (.aload_n 0, 1) := dk_42 (dk_at dksX1_fieldPointsTo_0 4 rfl rfl)
theorem dX1_fieldPointsTo_5 : decode cX1_fieldPointsTo 5 = .ok (.iload_n 1, 1) := dk_27 (dk_at dksX1_fieldPointsTo_0 5 rfl rfl)
theorem dX1_fieldPointsTo_6 : decode cX1_fieldPointsTo 6 = .ok (.iload_n 2, 1) := dk_28 (dk_at dksX1_fieldPointsTo_0 6 rfl rfl)
theorem dX1_fieldPointsTo_7 : decode cX1_fieldPointsTo 7 = .ok (.invokevirtual 199, 3) := dk_182 0 199 (dk_at dksX1_fieldPointsTo_0 7 rfl rfl)
theorem dX1_fieldPointsTo_10 : decode cX1_fieldPointsTo 10 = .ok (.invokevirtual 180, 3) := dk_182 0 180 (dk_at dksX1_fieldPointsTo_0 10 rfl rfl)
theorem dX1_fieldPointsTo_13 : decode cX1_fieldPointsTo 13 = .ok (.lreturn, 1) := dk_173 (dk_at dksX1_fieldPointsTo_0 13 rfl rfl)
abbrev cX1_code : ByteArray := prog_1_method_30_code
def yX1_code : MethodName := ⟨RX1, "code", "(II)I"⟩
def dkwX1_code_1 : List UInt8 := [153, 0, 7, 4, 167, 0, 4, 3, 184, 0, 97, 27, 28, 184, 0, 195, 172]
abbrev dktX1_code_1 : List UInt8 := dkwX1_code_1 ++ []
def dkwX1_code_0 : List UInt8 := [27, 3, 42, 180, 0, 46, 180, 0, 139, 4, 100, 184, 0, 15, 153, 0, 16, 28, 3, 5, 184, 0, 15]
abbrev dktX1_code_0 : List UInt8 := dkwX1_code_0 ++ dktX1_code_1
theorem dksX1_code_0 : cX1_code.data.toList.drop 0 = dktX1_code_0 := by decide +kernel
theorem dksX1_code_1 : cX1_code.data.toList.drop 23 = dktX1_code_1 := dk_seg dksX1_code_0 23 rfl rfl
theorem dX1_code_0 : decode cX1_code 0 = .ok (.iload_n 1, 1) := dk_27 (dk_at dksX1_code_0 0 rfl rfl)
theorem dX1_code_1 : decode cX1_code 1 = .ok (.iconst 0, 1) := dk_3 (dk_at dksX1_code_0 1 rfl rfl)
theorem dX1_code_2 : decode cX1_code 2 = .ok (.aload_n 0, 1) := dk_42 (dk_at dksX1_code_0 2 rfl rfl)
theorem dX1_code_3 : decode cX1_code 3 = .ok (.getfield 46, 3) := dk_180 0 46 (dk_at dksX1_code_0 3 rfl rfl)
theorem dX1_code_6 : decode cX1_code 6 = .ok (.getfield 139, 3) := dk_180 0 139 (dk_at dksX1_code_0 6 rfl rfl)
theorem dX1_code_9 : decode cX1_code 9 = .ok (.iconst 1, 1) := dk_4 (dk_at dksX1_code_0 9 rfl rfl)
theorem dX1_code_10 : decode cX1_code 10 = .ok (.isub, 1) := dk_100 (dk_at dksX1_code_0 10 rfl rfl)
theorem dX1_code_11 : decode cX1_code 11 = .ok (.invokestatic 15, 3) := dk_184 0 15 (dk_at dksX1_code_0 11 rfl rfl)
theorem dX1_code_14 : decode cX1_code 14 = .ok (.ifCond .eq 16, 3) := dk_153 0 16 (dk_at dksX1_code_0 14 rfl rfl)
theorem dX1_code_17 : decode cX1_code 17 = .ok (.iload_n 2, 1) := dk_28 (dk_at dksX1_code_0 17 rfl rfl)
theorem dX1_code_18 : decode cX1_code 18 = .ok (.iconst 0, 1) := dk_3 (dk_at dksX1_code_0 18 rfl rfl)
theorem dX1_code_19 : decode cX1_code 19 = .ok (.iconst 2, 1) := dk_5 (dk_at dksX1_code_0 19 rfl rfl)
theorem dX1_code_20 : decode cX1_code 20 = .ok (.invokestatic 15, 3) := dk_184 0 15 (dk_at dksX1_code_0 20 rfl rfl)
theorem dX1_code_23 : decode cX1_code 23 = .ok (.ifCond .eq 7, 3) := dk_153 0 7 (dk_at dksX1_code_1 0 rfl rfl)
theorem dX1_code_26 : decode cX1_code 26 = .ok (.iconst 1, 1) := dk_4 (dk_at dksX1_code_1 3 rfl rfl)
theorem dX1_code_27 : decode cX1_code 27 = .ok (.goto 4, 3) := dk_167 0 4 (dk_at dksX1_code_1 4 rfl rfl)
theorem dX1_code_30 : decode cX1_code 30 = .ok (.iconst 0, 1) := dk_3 (dk_at dksX1_code_1 7 rfl rfl)
theorem dX1_code_31 : decode cX1_code 31 = .ok (.invokestatic 97, 3) := dk_184 0 97 (dk_at dksX1_code_1 8 rfl rfl)
theorem dX1_code_34 : decode cX1_code 34 = .ok (.iload_n 1, 1) := dk_27 (dk_at dksX1_code_1 11 rfl rfl)
theorem dX1_code_35 : decode cX1_code 35 = .ok (.iload_n 2, 1) := dk_28 (dk_at dksX1_code_1 12 rfl rfl)
theorem dX1_code_36 : decode cX1_code 36 = .ok (.invokestatic 195, 3) := dk_184 0 195 (dk_at dksX1_code_1 13 rfl rfl)
theorem dX1_code_39 : decode cX1_code 39 = .ok (.ireturn, 1) := dk_172 (dk_at dksX1_code_1 16 rfl rfl)
abbrev cX1_mayAlias : ByteArray := prog_1_method_33_code
def yX1_mayAlias : MethodName := ⟨RX1, "mayAlias", "(II)Z"⟩
def dkwX1_mayAlias_2 : List UInt8 := [167, 0, 4, 3, 172]
abbrev dktX1_mayAlias_2 : List UInt8 := dkwX1_mayAlias_2 ++ []
def dkwX1_mayAlias_1 : List UInt8 := [182, 0, 150, 27, 182, 0, 180, 42, 182, 0, 150, 28, 182, 0, 180, 127, 9, 148, 153, 0, 7, 4]
abbrev dktX1_mayAlias_1 : List UInt8 := dkwX1_mayAlias_1 ++ dktX1_mayAlias_2
def dkwX1_mayAlias_0 : List UInt8 := [27, 184, 0, 177, 153, 0, 14, 28, 184, 0, 177, 153, 0, 7, 4, 167, 0, 4, 3, 184, 0, 97, 42]
abbrev dktX1_mayAlias_0 : List UInt8 := dkwX1_mayAlias_0 ++ dktX1_mayAlias_1
theorem dksX1_mayAlias_0 : cX1_mayAlias.data.toList.drop 0 = dktX1_mayAlias_0 := by decide +kernel
theorem dksX1_mayAlias_1 : cX1_mayAlias.data.toList.drop 23 = dktX1_mayAlias_1 := dk_seg dksX1_mayAlias_0 23 rfl rfl
theorem dksX1_mayAlias_2 : cX1_mayAlias.data.toList.drop 45 = dktX1_mayAlias_2 := dk_seg dksX1_mayAlias_1 22 rfl rfl
theorem dX1_mayAlias_0 : decode cX1_mayAlias 0 = .ok (.iload_n 1, 1) := dk_27 (dk_at dksX1_mayAlias_0 0 rfl rfl)
theorem dX1_mayAlias_1 : decode cX1_mayAlias 1 = .ok (.invokestatic 177, 3) := dk_184 0 177 (dk_at dksX1_mayAlias_0 1 rfl rfl)
theorem dX1_mayAlias_4 : decode cX1_mayAlias 4 = .ok (.ifCond .eq 14, 3) := dk_153 0 14 (dk_at dksX1_mayAlias_0 4 rfl rfl)
theorem dX1_mayAlias_7 : decode cX1_mayAlias 7 = .ok (.iload_n 2, 1) := dk_28 (dk_at dksX1_mayAlias_0 7 rfl rfl)
theorem dX1_mayAlias_8 : decode cX1_mayAlias 8 = .ok (.invokestatic 177, 3) := dk_184 0 177 (dk_at dksX1_mayAlias_0 8 rfl rfl)
theorem dX1_mayAlias_11 : decode cX1_mayAlias 11 = .ok (.ifCond .eq 7, 3) := dk_153 0 7 (dk_at dksX1_mayAlias_0 11 rfl rfl)
theorem dX1_mayAlias_14 : decode cX1_mayAlias 14 = .ok (.iconst 1, 1) := dk_4 (dk_at dksX1_mayAlias_0 14 rfl rfl)
theorem dX1_mayAlias_15 : decode cX1_mayAlias 15 = .ok (.goto 4, 3) := dk_167 0 4 (dk_at dksX1_mayAlias_0 15 rfl rfl)
theorem dX1_mayAlias_18 : decode cX1_mayAlias 18 = .ok (.iconst 0, 1) := dk_3 (dk_at dksX1_mayAlias_0 18 rfl rfl)
theorem dX1_mayAlias_19 : decode cX1_mayAlias 19 = .ok (.invokestatic 97, 3) := dk_184 0 97 (dk_at dksX1_mayAlias_0 19 rfl rfl)
theorem dX1_mayAlias_22 : decode cX1_mayAlias 22 = .ok (.aload_n 0, 1) := dk_42 (dk_at dksX1_mayAlias_0 22 rfl rfl)
theorem dX1_mayAlias_23 : decode cX1_mayAlias 23 = .ok (.invokevirtual 150, 3) := dk_182 0 150 (dk_at dksX1_mayAlias_1 0 rfl rfl)
theorem dX1_mayAlias_26 : decode cX1_mayAlias 26 = .ok (.iload_n 1, 1) := dk_27 (dk_at dksX1_mayAlias_1 3 rfl rfl)
theorem dX1_mayAlias_27 : decode cX1_mayAlias 27 = .ok (.invokevirtual 180, 3) := dk_182 0 180 (dk_at dksX1_mayAlias_1 4 rfl rfl)
theorem dX1_mayAlias_30 : decode cX1_mayAlias 30 = .ok (.aload_n 0, 1) := dk_42 (dk_at dksX1_mayAlias_1 7 rfl rfl)
theorem dX1_mayAlias_31 : decode cX1_mayAlias 31 = .ok (.invokevirtual 150, 3) := dk_182 0 150 (dk_at dksX1_mayAlias_1 8 rfl rfl)
theorem dX1_mayAlias_34 : decode cX1_mayAlias 34 = .ok (.iload_n 2, 1) := dk_28 (dk_at dksX1_mayAlias_1 11 rfl rfl)
theorem dX1_mayAlias_35 : decode cX1_mayAlias 35 = .ok (.invokevirtual 180, 3) := dk_182 0 180 (dk_at dksX1_mayAlias_1 12 rfl rfl)
theorem dX1_mayAlias_38 : decode cX1_mayAlias 38 = .ok (.land, 1) := dk_127 (dk_at dksX1_mayAlias_1 15 rfl rfl)
theorem dX1_mayAlias_39 : decode cX1_mayAlias 39 = .ok (.lconst 0, 1) := dk_9 (dk_at dksX1_mayAlias_1 16 rfl rfl)
theorem dX1_mayAlias_40 : decode cX1_mayAlias 40 = .ok (.lcmp, 1) := dk_148 (dk_at dksX1_mayAlias_1 17 rfl rfl)
theorem dX1_mayAlias_41 : decode cX1_mayAlias 41 = .ok (.ifCond .eq 7, 3) := dk_153 0 7 (dk_at dksX1_mayAlias_1 18 rfl rfl)
theorem dX1_mayAlias_44 : decode cX1_mayAlias 44 = .ok (.iconst 1, 1) := dk_4 (dk_at dksX1_mayAlias_1 21 rfl rfl)
theorem dX1_mayAlias_45 : decode cX1_mayAlias 45 = .ok (.goto 4, 3) := dk_167 0 4 (dk_at dksX1_mayAlias_2 0 rfl rfl)
theorem dX1_mayAlias_48 : decode cX1_mayAlias 48 = .ok (.iconst 0, 1) := dk_3 (dk_at dksX1_mayAlias_2 3 rfl rfl)
theorem dX1_mayAlias_49 : decode cX1_mayAlias 49 = .ok (.ireturn, 1) := dk_172 (dk_at dksX1_mayAlias_2 4 rfl rfl)
abbrev cX1_reach : ByteArray := prog_1_method_35_code
def yX1_reach : MethodName := ⟨RX1, "reach", "(I)J"⟩
def dkwX1_reach_0 : List UInt8 := [27, 184, 0, 177, 184, 0, 97, 42, 27, 182, 0, 213, 173]
abbrev dktX1_reach_0 : List UInt8 := dkwX1_reach_0 ++ []
theorem dksX1_reach_0 : cX1_reach.data.toList.drop 0 = dktX1_reach_0 := by decide +kernel
theorem dX1_reach_0 : decode cX1_reach 0 = .ok (.iload_n 1, 1) := dk_27 (dk_at dksX1_reach_0 0 rfl rfl)
theorem dX1_reach_1 : decode cX1_reach 1 = .ok (.invokestatic 177, 3) := dk_184 0 177 (dk_at dksX1_reach_0 1 rfl rfl)
theorem dX1_reach_4 : decode cX1_reach 4 = .ok (.invokestatic 97, 3) := dk_184 0 97 (dk_at dksX1_reach_0 4 rfl rfl)
theorem dX1_reach_7 : decode cX1_reach 7 = .ok (.aload_n 0, 1) := dk_42 (dk_at dksX1_reach_0 7 rfl rfl)
theorem dX1_reach_8 : decode cX1_reach 8 = .ok (.iload_n 1, 1) := dk_27 (dk_at dksX1_reach_0 8 rfl rfl)
theorem dX1_reach_9 : decode cX1_reach 9 = .ok (.invokevirtual 213, 3) := dk_182 0 213 (dk_at dksX1_reach_0 9 rfl rfl)
theorem dX1_reach_12 : decode cX1_reach 12 = .ok (.lreturn, 1) := dk_173 (dk_at dksX1_reach_0 12 rfl rfl)
abbrev cX1_rank : ByteArray := prog_1_method_39_code
def yX1_rank : MethodName := ⟨RX1, "rank", "(II)I"⟩
def dkwX1_rank_0 : List UInt8 := [42, 27, 28, 182, 0, 238, 180, 0, 231, 27, 50, 28, 46, 172]
abbrev dktX1_rank_0 : List UInt8 := dkwX1_rank_0 ++ []
theorem dksX1_rank_0 : cX1_rank.data.toList.drop 0 = dktX1_rank_0 := by decide +kernel
theorem dX1_rank_0 : decode cX1_rank 0 = .ok (.aload_n 0, 1) := dk_42 (dk_at dksX1_rank_0 0 rfl rfl)
theorem dX1_rank_1 : decode cX1_rank 1 = .ok (.iload_n 1, 1) := dk_27 (dk_at dksX1_rank_0 1 rfl rfl)
theorem dX1_rank_2 : decode cX1_rank 2 = .ok (.iload_n 2, 1) := dk_28 (dk_at dksX1_rank_0 2 rfl rfl)
theorem dX1_rank_3 : decode cX1_rank 3 = .ok (.invokevirtual 238, 3) := dk_182 0 238 (dk_at dksX1_rank_0 3 rfl rfl)
theorem dX1_rank_6 : decode cX1_rank 6 = .ok (.getfield 231, 3) := dk_180 0 231 (dk_at dksX1_rank_0 6 rfl rfl)
theorem dX1_rank_9 : decode cX1_rank 9 = .ok (.iload_n 1, 1) := dk_27 (dk_at dksX1_rank_0 9 rfl rfl)
theorem dX1_rank_10 : decode cX1_rank 10 = .ok (.aaload, 1) := dk_50 (dk_at dksX1_rank_0 10 rfl rfl)
theorem dX1_rank_11 : decode cX1_rank 11 = .ok (.iload_n 2, 1) := dk_28 (dk_at dksX1_rank_0 11 rfl rfl)
theorem dX1_rank_12 : decode cX1_rank 12 = .ok (.iaload, 1) := dk_46 (dk_at dksX1_rank_0 12 rfl rfl)
theorem dX1_rank_13 : decode cX1_rank 13 = .ok (.ireturn, 1) := dk_172 (dk_at dksX1_rank_0 13 rfl rfl)
abbrev cX1_requireFact : ByteArray := prog_1_method_38_code
def yX1_requireFact : MethodName := ⟨RX1, "requireFact", "(II)LPointerAnalyzer$Ranks;"⟩
def dkwX1_requireFact_2 : List UInt8 := [50, 28, 46, 154, 0, 11, 187, 0, 235, 89, 183, 0, 237, 191, 45, 176]
abbrev dktX1_requireFact_2 : List UInt8 := dkwX1_requireFact_2 ++ []
def dkwX1_requireFact_1 : List UInt8 := [184, 0, 15, 153, 0, 7, 4, 167, 0, 4, 3, 184, 0, 97, 42, 182, 0, 227, 78, 45, 180, 0, 231, 27]
abbrev dktX1_requireFact_1 : List UInt8 := dkwX1_requireFact_1 ++ dktX1_requireFact_2
def dkwX1_requireFact_0 : List UInt8 := [27, 184, 0, 177, 153, 0, 29, 28, 3, 16, 20, 6, 42, 180, 0, 46, 180, 0, 139, 104, 96, 4, 100]
abbrev dktX1_requireFact_0 : List UInt8 := dkwX1_requireFact_0 ++ dktX1_requireFact_1
theorem dksX1_requireFact_0 : cX1_requireFact.data.toList.drop 0 = dktX1_requireFact_0 := by decide +kernel
theorem dksX1_requireFact_1 : cX1_requireFact.data.toList.drop 23 = dktX1_requireFact_1 := dk_seg dksX1_requireFact_0 23 rfl rfl
theorem dksX1_requireFact_2 : cX1_requireFact.data.toList.drop 47 = dktX1_requireFact_2 := dk_seg dksX1_requireFact_1 24 rfl rfl
theorem dX1_requireFact_0 : decode cX1_requireFact 0 = .ok (.iload_n 1, 1) := dk_27 (dk_at dksX1_requireFact_0 0 rfl rfl)
theorem dX1_requireFact_1 : decode cX1_requireFact 1 = .ok (.invokestatic 177, 3) := dk_184 0 177 (dk_at dksX1_requireFact_0 1 rfl rfl)
theorem dX1_requireFact_4 : decode cX1_requireFact 4 = .ok (.ifCond .eq 29, 3) := dk_153 0 29 (dk_at dksX1_requireFact_0 4 rfl rfl)
theorem dX1_requireFact_7 : decode cX1_requireFact 7 = .ok (.iload_n 2, 1) := dk_28 (dk_at dksX1_requireFact_0 7 rfl rfl)
theorem dX1_requireFact_8 : decode cX1_requireFact 8 = .ok (.iconst 0, 1) := dk_3 (dk_at dksX1_requireFact_0 8 rfl rfl)
theorem dX1_requireFact_9 : decode cX1_requireFact 9 = .ok (.bipush 20, 2) := dk_16 20 (dk_at dksX1_requireFact_0 9 rfl rfl)
theorem dX1_requireFact_11 : decode cX1_requireFact 11 = .ok (.iconst 3, 1) := dk_6 (dk_at dksX1_requireFact_0 11 rfl rfl)
theorem dX1_requireFact_12 : decode cX1_requireFact 12 = .ok (.aload_n 0, 1) := dk_42 (dk_at dksX1_requireFact_0 12 rfl rfl)
theorem dX1_requireFact_13 : decode cX1_requireFact 13 = .ok (.getfield 46, 3) := dk_180 0 46 (dk_at dksX1_requireFact_0 13 rfl rfl)
theorem dX1_requireFact_16 : decode cX1_requireFact 16 = .ok (.getfield 139, 3) := dk_180 0 139 (dk_at dksX1_requireFact_0 16 rfl rfl)
theorem dX1_requireFact_19 : decode cX1_requireFact 19 = .ok (.imul, 1) := dk_104 (dk_at dksX1_requireFact_0 19 rfl rfl)
theorem dX1_requireFact_20 : decode cX1_requireFact 20 = .ok (.iadd, 1) := dk_96 (dk_at dksX1_requireFact_0 20 rfl rfl)
theorem dX1_requireFact_21 : decode cX1_requireFact 21 = .ok (.iconst 1, 1) := dk_4 (dk_at dksX1_requireFact_0 21 rfl rfl)
theorem dX1_requireFact_22 : decode cX1_requireFact 22 = .ok (.isub, 1) := dk_100 (dk_at dksX1_requireFact_0 22 rfl rfl)
theorem dX1_requireFact_23 : decode cX1_requireFact 23 = .ok (.invokestatic 15, 3) := dk_184 0 15 (dk_at dksX1_requireFact_1 0 rfl rfl)
theorem dX1_requireFact_26 : decode cX1_requireFact 26 = .ok (.ifCond .eq 7, 3) := dk_153 0 7 (dk_at dksX1_requireFact_1 3 rfl rfl)
theorem dX1_requireFact_29 : decode cX1_requireFact 29 = .ok (.iconst 1, 1) := dk_4 (dk_at dksX1_requireFact_1 6 rfl rfl)
theorem dX1_requireFact_30 : decode cX1_requireFact 30 = .ok (.goto 4, 3) := dk_167 0 4 (dk_at dksX1_requireFact_1 7 rfl rfl)
theorem dX1_requireFact_33 : decode cX1_requireFact 33 = .ok (.iconst 0, 1) := dk_3 (dk_at dksX1_requireFact_1 10 rfl rfl)
theorem dX1_requireFact_34 : decode cX1_requireFact 34 = .ok (.invokestatic 97, 3) := dk_184 0 97 (dk_at dksX1_requireFact_1 11 rfl rfl)
theorem dX1_requireFact_37 : decode cX1_requireFact 37 = .ok (.aload_n 0, 1) := dk_42 (dk_at dksX1_requireFact_1 14 rfl rfl)
theorem dX1_requireFact_38 : decode cX1_requireFact 38 = .ok (.invokevirtual 227, 3) := dk_182 0 227 (dk_at dksX1_requireFact_1 15 rfl rfl)
theorem dX1_requireFact_41 : decode cX1_requireFact 41 = .ok (.astore_n 3, 1) := dk_78 (dk_at dksX1_requireFact_1 18 rfl rfl)
theorem dX1_requireFact_42 : decode cX1_requireFact 42 = .ok (.aload_n 3, 1) := dk_45 (dk_at dksX1_requireFact_1 19 rfl rfl)
theorem dX1_requireFact_43 : decode cX1_requireFact 43 = .ok (.getfield 231, 3) := dk_180 0 231 (dk_at dksX1_requireFact_1 20 rfl rfl)
theorem dX1_requireFact_46 : decode cX1_requireFact 46 = .ok (.iload_n 1, 1) := dk_27 (dk_at dksX1_requireFact_1 23 rfl rfl)
theorem dX1_requireFact_47 : decode cX1_requireFact 47 = .ok (.aaload, 1) := dk_50 (dk_at dksX1_requireFact_2 0 rfl rfl)
theorem dX1_requireFact_48 : decode cX1_requireFact 48 = .ok (.iload_n 2, 1) := dk_28 (dk_at dksX1_requireFact_2 1 rfl rfl)
theorem dX1_requireFact_49 : decode cX1_requireFact 49 = .ok (.iaload, 1) := dk_46 (dk_at dksX1_requireFact_2 2 rfl rfl)
theorem dX1_requireFact_50 : decode cX1_requireFact 50 = .ok (.ifCond .ne 11, 3) := dk_154 0 11 (dk_at dksX1_requireFact_2 3 rfl rfl)
theorem dX1_requireFact_53 : decode cX1_requireFact 53 = .ok (.new 235, 3) := dk_187 0 235 (dk_at dksX1_requireFact_2 6 rfl rfl)
theorem dX1_requireFact_56 : decode cX1_requireFact 56 = .ok (.dup, 1) := dk_89 (dk_at dksX1_requireFact_2 9 rfl rfl)
theorem dX1_requireFact_57 : decode cX1_requireFact 57 = .ok (.invokespecial 237, 3) := dk_183 0 237 (dk_at dksX1_requireFact_2 10 rfl rfl)
theorem dX1_requireFact_60 : decode cX1_requireFact 60 = .ok (.athrow, 1) := dk_191 (dk_at dksX1_requireFact_2 13 rfl rfl)
theorem dX1_requireFact_61 : decode cX1_requireFact 61 = .ok (.aload_n 3, 1) := dk_45 (dk_at dksX1_requireFact_2 14 rfl rfl)
theorem dX1_requireFact_62 : decode cX1_requireFact 62 = .ok (.areturn, 1) := dk_176 (dk_at dksX1_requireFact_2 15 rfl rfl)
abbrev cX1_reason : ByteArray := prog_1_method_40_code
def yX1_reason : MethodName := ⟨RX1, "reason", "(II)I"⟩
def dkwX1_reason_0 : List UInt8 := [42, 27, 28, 182, 0, 238, 180, 0, 242, 27, 50, 28, 46, 172]
abbrev dktX1_reason_0 : List UInt8 := dkwX1_reason_0 ++ []
theorem dksX1_reason_0 : cX1_reason.data.toList.drop 0 = dktX1_reason_0 := by decide +kernel
theorem dX1_reason_0 : decode cX1_reason 0 = .ok (.aload_n 0, 1) := dk_42 (dk_at dksX1_reason_0 0 rfl rfl)
theorem dX1_reason_1 : decode cX1_reason 1 = .ok (.iload_n 1, 1) := dk_27 (dk_at dksX1_reason_0 1 rfl rfl)
theorem dX1_reason_2 : decode cX1_reason 2 = .ok (.iload_n 2, 1) := dk_28 (dk_at dksX1_reason_0 2 rfl rfl)
theorem dX1_reason_3 : decode cX1_reason 3 = .ok (.invokevirtual 238, 3) := dk_182 0 238 (dk_at dksX1_reason_0 3 rfl rfl)
theorem dX1_reason_6 : decode cX1_reason 6 = .ok (.getfield 242, 3) := dk_180 0 242 (dk_at dksX1_reason_0 6 rfl rfl)
theorem dX1_reason_9 : decode cX1_reason 9 = .ok (.iload_n 1, 1) := dk_27 (dk_at dksX1_reason_0 9 rfl rfl)
theorem dX1_reason_10 : decode cX1_reason 10 = .ok (.aaload, 1) := dk_50 (dk_at dksX1_reason_0 10 rfl rfl)
theorem dX1_reason_11 : decode cX1_reason 11 = .ok (.iload_n 2, 1) := dk_28 (dk_at dksX1_reason_0 11 rfl rfl)
theorem dX1_reason_12 : decode cX1_reason 12 = .ok (.iaload, 1) := dk_46 (dk_at dksX1_reason_0 12 rfl rfl)
theorem dX1_reason_13 : decode cX1_reason 13 = .ok (.ireturn, 1) := dk_172 (dk_at dksX1_reason_0 13 rfl rfl)
abbrev cX1_unifiedTargets : ByteArray := prog_1_method_42_code
def yX1_unifiedTargets : MethodName := ⟨RX1, "unifiedTargets", "(I)J"⟩
def dkwX1_unifiedTargets_0 : List UInt8 := [27, 184, 0, 177, 184, 0, 97, 187, 0, 248, 89, 42, 180, 0, 46, 183, 0, 250, 27, 182, 0, 252, 173]
abbrev dktX1_unifiedTargets_0 : List UInt8 := dkwX1_unifiedTargets_0 ++ []
theorem dksX1_unifiedTargets_0 : cX1_unifiedTargets.data.toList.drop 0 = dktX1_unifiedTargets_0 := by decide +kernel
theorem dX1_unifiedTargets_0 : decode cX1_unifiedTargets 0 = .ok (.iload_n 1, 1) := dk_27 (dk_at dksX1_unifiedTargets_0 0 rfl rfl)
theorem dX1_unifiedTargets_1 : decode cX1_unifiedTargets 1 = .ok (.invokestatic 177, 3) := dk_184 0 177 (dk_at dksX1_unifiedTargets_0 1 rfl rfl)
theorem dX1_unifiedTargets_4 : decode cX1_unifiedTargets 4 = .ok (.invokestatic 97, 3) := dk_184 0 97 (dk_at dksX1_unifiedTargets_0 4 rfl rfl)
theorem dX1_unifiedTargets_7 : decode cX1_unifiedTargets 7 = .ok (.new 248, 3) := dk_187 0 248 (dk_at dksX1_unifiedTargets_0 7 rfl rfl)
theorem dX1_unifiedTargets_10 : decode cX1_unifiedTargets 10 = .ok (.dup, 1) := dk_89 (dk_at dksX1_unifiedTargets_0 10 rfl rfl)
theorem dX1_unifiedTargets_11 : decode cX1_unifiedTargets 11 = .ok (.aload_n 0, 1) := dk_42 (dk_at dksX1_unifiedTargets_0 11 rfl rfl)
theorem dX1_unifiedTargets_12 : decode cX1_unifiedTargets 12 = .ok (.getfield 46, 3) := dk_180 0 46 (dk_at dksX1_unifiedTargets_0 12 rfl rfl)
theorem dX1_unifiedTargets_15 : decode cX1_unifiedTargets 15 = .ok (.invokespecial 250, 3) := dk_183 0 250 (dk_at dksX1_unifiedTargets_0 15 rfl rfl)
theorem dX1_unifiedTargets_18 : decode cX1_unifiedTargets 18 = .ok (.iload_n 1, 1) := dk_27 (dk_at dksX1_unifiedTargets_0 18 rfl rfl)
theorem dX1_unifiedTargets_19 : decode cX1_unifiedTargets 19 = .ok (.invokevirtual 252, 3) := dk_182 0 252 (dk_at dksX1_unifiedTargets_0 19 rfl rfl)
theorem dX1_unifiedTargets_22 : decode cX1_unifiedTargets 22 = .ok (.lreturn, 1) := dk_173 (dk_at dksX1_unifiedTargets_0 22 rfl rfl)
abbrev cX1_areUnified : ByteArray := prog_1_method_43_code
def yX1_areUnified : MethodName := ⟨RX1, "areUnified", "(II)Z"⟩
def dkwX1_areUnified_2 : List UInt8 := [180, 0, 255, 28, 50, 182, 1, 3, 166, 0, 7, 4, 167, 0, 4, 3, 172]
abbrev dktX1_areUnified_2 : List UInt8 := dkwX1_areUnified_2 ++ []
def dkwX1_areUnified_1 : List UInt8 := [187, 0, 248, 89, 42, 180, 0, 46, 183, 0, 250, 78, 45, 180, 0, 255, 27, 50, 182, 1, 3, 45]
abbrev dktX1_areUnified_1 : List UInt8 := dkwX1_areUnified_1 ++ dktX1_areUnified_2
def dkwX1_areUnified_0 : List UInt8 := [27, 184, 0, 177, 153, 0, 14, 28, 184, 0, 177, 153, 0, 7, 4, 167, 0, 4, 3, 184, 0, 97]
abbrev dktX1_areUnified_0 : List UInt8 := dkwX1_areUnified_0 ++ dktX1_areUnified_1
theorem dksX1_areUnified_0 : cX1_areUnified.data.toList.drop 0 = dktX1_areUnified_0 := by decide +kernel
theorem dksX1_areUnified_1 : cX1_areUnified.data.toList.drop 22 = dktX1_areUnified_1 := dk_seg dksX1_areUnified_0 22 rfl rfl
theorem dksX1_areUnified_2 : cX1_areUnified.data.toList.drop 44 = dktX1_areUnified_2 := dk_seg dksX1_areUnified_1 22 rfl rfl
theorem dX1_areUnified_0 : decode cX1_areUnified 0 = .ok (.iload_n 1, 1) := dk_27 (dk_at dksX1_areUnified_0 0 rfl rfl)
theorem dX1_areUnified_1 : decode cX1_areUnified 1 = .ok (.invokestatic 177, 3) := dk_184 0 177 (dk_at dksX1_areUnified_0 1 rfl rfl)
theorem dX1_areUnified_4 : decode cX1_areUnified 4 = .ok (.ifCond .eq 14, 3) := dk_153 0 14 (dk_at dksX1_areUnified_0 4 rfl rfl)
theorem dX1_areUnified_7 : decode cX1_areUnified 7 = .ok (.iload_n 2, 1) := dk_28 (dk_at dksX1_areUnified_0 7 rfl rfl)
theorem dX1_areUnified_8 : decode cX1_areUnified 8 = .ok (.invokestatic 177, 3) := dk_184 0 177 (dk_at dksX1_areUnified_0 8 rfl rfl)
theorem dX1_areUnified_11 : decode cX1_areUnified 11 = .ok (.ifCond .eq 7, 3) := dk_153 0 7 (dk_at dksX1_areUnified_0 11 rfl rfl)
theorem dX1_areUnified_14 : decode cX1_areUnified 14 = .ok (.iconst 1, 1) := dk_4 (dk_at dksX1_areUnified_0 14 rfl rfl)
theorem dX1_areUnified_15 : decode cX1_areUnified 15 = .ok (.goto 4, 3) := dk_167 0 4 (dk_at dksX1_areUnified_0 15 rfl rfl)
theorem dX1_areUnified_18 : decode cX1_areUnified 18 = .ok (.iconst 0, 1) := dk_3 (dk_at dksX1_areUnified_0 18 rfl rfl)
theorem dX1_areUnified_19 : decode cX1_areUnified 19 = .ok (.invokestatic 97, 3) := dk_184 0 97 (dk_at dksX1_areUnified_0 19 rfl rfl)
theorem dX1_areUnified_22 : decode cX1_areUnified 22 = .ok (.new 248, 3) := dk_187 0 248 (dk_at dksX1_areUnified_1 0 rfl rfl)
theorem dX1_areUnified_25 : decode cX1_areUnified 25 = .ok (.dup, 1) := dk_89 (dk_at dksX1_areUnified_1 3 rfl rfl)
theorem dX1_areUnified_26 : decode cX1_areUnified 26 = .ok (.aload_n 0, 1) := dk_42 (dk_at dksX1_areUnified_1 4 rfl rfl)
theorem dX1_areUnified_27 : decode cX1_areUnified 27 = .ok (.getfield 46, 3) := dk_180 0 46 (dk_at dksX1_areUnified_1 5 rfl rfl)
theorem dX1_areUnified_30 : decode cX1_areUnified 30 = .ok (.invokespecial 250, 3) := dk_183 0 250 (dk_at dksX1_areUnified_1 8 rfl rfl)
theorem dX1_areUnified_33 : decode cX1_areUnified 33 = .ok (.astore_n 3, 1) := dk_78 (dk_at dksX1_areUnified_1 11 rfl rfl)
theorem dX1_areUnified_34 : decode cX1_areUnified 34 = .ok (.aload_n 3, 1) := dk_45 (dk_at dksX1_areUnified_1 12 rfl rfl)
theorem dX1_areUnified_35 : decode cX1_areUnified 35 = .ok (.getfield 255, 3) := dk_180 0 255 (dk_at dksX1_areUnified_1 13 rfl rfl)
theorem dX1_areUnified_38 : decode cX1_areUnified 38 = .ok (.iload_n 1, 1) := dk_27 (dk_at dksX1_areUnified_1 16 rfl rfl)
theorem dX1_areUnified_39 : decode cX1_areUnified 39 = .ok (.aaload, 1) := dk_50 (dk_at dksX1_areUnified_1 17 rfl rfl)
theorem dX1_areUnified_40 : decode cX1_areUnified 40 = .ok (.invokevirtual 259, 3) := dk_182 1 3 (dk_at dksX1_areUnified_1 18 rfl rfl)
theorem dX1_areUnified_43 : decode cX1_areUnified 43 = .ok (.aload_n 3, 1) := dk_45 (dk_at dksX1_areUnified_1 21 rfl rfl)
theorem dX1_areUnified_44 : decode cX1_areUnified 44 = .ok (.getfield 255, 3) := dk_180 0 255 (dk_at dksX1_areUnified_2 0 rfl rfl)
theorem dX1_areUnified_47 : decode cX1_areUnified 47 = .ok (.iload_n 2, 1) := dk_28 (dk_at dksX1_areUnified_2 3 rfl rfl)
theorem dX1_areUnified_48 : decode cX1_areUnified 48 = .ok (.aaload, 1) := dk_50 (dk_at dksX1_areUnified_2 4 rfl rfl)
theorem dX1_areUnified_49 : decode cX1_areUnified 49 = .ok (.invokevirtual 259, 3) := dk_182 1 3 (dk_at dksX1_areUnified_2 5 rfl rfl)
theorem dX1_areUnified_52 : decode cX1_areUnified 52 = .ok (.if_acmp .ne 7, 3) := dk_166 0 7 (dk_at dksX1_areUnified_2 8 rfl rfl)
theorem dX1_areUnified_55 : decode cX1_areUnified 55 = .ok (.iconst 1, 1) := dk_4 (dk_at dksX1_areUnified_2 11 rfl rfl)
theorem dX1_areUnified_56 : decode cX1_areUnified 56 = .ok (.goto 4, 3) := dk_167 0 4 (dk_at dksX1_areUnified_2 12 rfl rfl)
theorem dX1_areUnified_59 : decode cX1_areUnified 59 = .ok (.iconst 0, 1) := dk_3 (dk_at dksX1_areUnified_2 15 rfl rfl)
theorem dX1_areUnified_60 : decode cX1_areUnified 60 = .ok (.ireturn, 1) := dk_172 (dk_at dksX1_areUnified_2 16 rfl rfl)
abbrev cX1_modifies : ByteArray := prog_1_method_45_code
def yX1_modifies : MethodName := ⟨RX1, "modifies", "(I)J"⟩
def dkwX1_modifies_5 : List UInt8 := [132, 5, 1, 167, 255, 157, 33, 173]
abbrev dktX1_modifies_5 : List UInt8 := dkwX1_modifies_5 ++ []
def dkwX1_modifies_4 : List UInt8 := [153, 0, 21, 42, 182, 0, 150, 25, 6, 180, 0, 129, 180, 1, 19, 182, 0, 180, 167, 0, 4, 9, 129, 66]
abbrev dktX1_modifies_4 : List UInt8 := dkwX1_modifies_4 ++ dktX1_modifies_5
def dkwX1_modifies_3 : List UInt8 := [159, 0, 13, 44, 25, 6, 180, 0, 136, 51, 153, 0, 7, 4, 167, 0, 4, 3, 54, 7, 33, 21, 7]
abbrev dktX1_modifies_3 : List UInt8 := dkwX1_modifies_3 ++ dktX1_modifies_4
def dkwX1_modifies_2 : List UInt8 := [192, 0, 123, 58, 6, 25, 6, 178, 1, 12, 182, 1, 15, 153, 0, 26, 25, 6, 180, 0, 136, 27]
abbrev dktX1_modifies_2 : List UInt8 := dkwX1_modifies_2 ++ dktX1_modifies_3
def dkwX1_modifies_1 : List UInt8 := [180, 0, 46, 180, 0, 120, 182, 0, 19, 162, 0, 90, 42, 180, 0, 46, 180, 0, 120, 21, 5, 182, 0, 25]
abbrev dktX1_modifies_1 : List UInt8 := dkwX1_modifies_1 ++ dktX1_modifies_2
def dkwX1_modifies_0 : List UInt8 := [27, 184, 0, 93, 184, 0, 97, 42, 180, 0, 46, 27, 182, 0, 218, 77, 9, 66, 3, 54, 5, 21, 5, 42]
abbrev dktX1_modifies_0 : List UInt8 := dkwX1_modifies_0 ++ dktX1_modifies_1
theorem dksX1_modifies_0 : cX1_modifies.data.toList.drop 0 = dktX1_modifies_0 := by decide +kernel
theorem dksX1_modifies_1 : cX1_modifies.data.toList.drop 24 = dktX1_modifies_1 := dk_seg dksX1_modifies_0 24 rfl rfl
theorem dksX1_modifies_2 : cX1_modifies.data.toList.drop 48 = dktX1_modifies_2 := dk_seg dksX1_modifies_1 24 rfl rfl
theorem dksX1_modifies_3 : cX1_modifies.data.toList.drop 70 = dktX1_modifies_3 := dk_seg dksX1_modifies_2 22 rfl rfl
theorem dksX1_modifies_4 : cX1_modifies.data.toList.drop 93 = dktX1_modifies_4 := dk_seg dksX1_modifies_3 23 rfl rfl
theorem dksX1_modifies_5 : cX1_modifies.data.toList.drop 117 = dktX1_modifies_5 := dk_seg dksX1_modifies_4 24 rfl rfl
theorem dX1_modifies_0 : decode cX1_modifies 0 = .ok (.iload_n 1, 1) := dk_27 (dk_at dksX1_modifies_0 0 rfl rfl)
theorem dX1_modifies_1 : decode cX1_modifies 1 = .ok (.invokestatic 93, 3) := dk_184 0 93 (dk_at dksX1_modifies_0 1 rfl rfl)
theorem dX1_modifies_4 : decode cX1_modifies 4 = .ok (.invokestatic 97, 3) := dk_184 0 97 (dk_at dksX1_modifies_0 4 rfl rfl)
theorem dX1_modifies_7 : decode cX1_modifies 7 = .ok (.aload_n 0, 1) := dk_42 (dk_at dksX1_modifies_0 7 rfl rfl)
theorem dX1_modifies_8 : decode cX1_modifies 8 = .ok (.getfield 46, 3) := dk_180 0 46 (dk_at dksX1_modifies_0 8 rfl rfl)
theorem dX1_modifies_11 : decode cX1_modifies 11 = .ok (.iload_n 1, 1) := dk_27 (dk_at dksX1_modifies_0 11 rfl rfl)
theorem dX1_modifies_12 : decode cX1_modifies 12 = .ok (.invokevirtual 218, 3) := dk_182 0 218 (dk_at dksX1_modifies_0 12 rfl rfl)
theorem dX1_modifies_15 : decode cX1_modifies 15 = .ok (.astore_n 2, 1) := dk_77 (dk_at dksX1_modifies_0 15 rfl rfl)
theorem dX1_modifies_16 : decode cX1_modifies 16 = .ok (.lconst 0, 1) := dk_9 (dk_at dksX1_modifies_0 16 rfl rfl)
theorem dX1_modifies_17 : decode cX1_modifies 17 = .ok (.lstore_n 3, 1) := dk_66 (dk_at dksX1_modifies_0 17 rfl rfl)
theorem dX1_modifies_18 : decode cX1_modifies 18 = .ok (.iconst 0, 1) := dk_3 (dk_at dksX1_modifies_0 18 rfl rfl)
theorem dX1_modifies_19 : decode cX1_modifies 19 = .ok (.istore 5, 2) := dk_54 5 (dk_at dksX1_modifies_0 19 rfl rfl)
theorem dX1_modifies_21 : decode cX1_modifies 21 = .ok (.iload 5, 2) := dk_21 5 (dk_at dksX1_modifies_0 21 rfl rfl)
theorem dX1_modifies_23 : decode cX1_modifies 23 = .ok (.aload_n 0, 1) := dk_42 (dk_at dksX1_modifies_0 23 rfl rfl)
theorem dX1_modifies_24 : decode cX1_modifies 24 = .ok (.getfield 46, 3) := dk_180 0 46 (dk_at dksX1_modifies_1 0 rfl rfl)
theorem dX1_modifies_27 : decode cX1_modifies 27 = .ok (.getfield 120, 3) := dk_180 0 120 (dk_at dksX1_modifies_1 3 rfl rfl)
theorem dX1_modifies_30 : decode cX1_modifies 30 = .ok (.invokevirtual 19, 3) := dk_182 0 19 (dk_at dksX1_modifies_1 6 rfl rfl)
theorem dX1_modifies_33 : decode cX1_modifies 33 = .ok (.if_icmp .ge 90, 3) := dk_162 0 90 (dk_at dksX1_modifies_1 9 rfl rfl)
theorem dX1_modifies_36 : decode cX1_modifies 36 = .ok (.aload_n 0, 1) := dk_42 (dk_at dksX1_modifies_1 12 rfl rfl)
theorem dX1_modifies_37 : decode cX1_modifies 37 = .ok (.getfield 46, 3) := dk_180 0 46 (dk_at dksX1_modifies_1 13 rfl rfl)
theorem dX1_modifies_40 : decode cX1_modifies 40 = .ok (.getfield 120, 3) := dk_180 0 120 (dk_at dksX1_modifies_1 16 rfl rfl)
theorem dX1_modifies_43 : decode cX1_modifies 43 = .ok (.iload 5, 2) := dk_21 5 (dk_at dksX1_modifies_1 19 rfl rfl)
theorem dX1_modifies_45 : decode cX1_modifies 45 = .ok (.invokevirtual 25, 3) := dk_182 0 25 (dk_at dksX1_modifies_1 21 rfl rfl)
theorem dX1_modifies_48 : decode cX1_modifies 48 = .ok (.checkcast 123, 3) := dk_192 0 123 (dk_at dksX1_modifies_2 0 rfl rfl)
theorem dX1_modifies_51 : decode cX1_modifies 51 = .ok (.astore 6, 2) := dk_58 6 (dk_at dksX1_modifies_2 3 rfl rfl)
theorem dX1_modifies_53 : decode cX1_modifies 53 = .ok (.aload 6, 2) := dk_25 6 (dk_at dksX1_modifies_2 5 rfl rfl)
theorem dX1_modifies_55 : decode cX1_modifies 55 = .ok (.getstatic 268, 3) := dk_178 1 12 (dk_at dksX1_modifies_2 7 rfl rfl)
theorem dX1_modifies_58 : decode cX1_modifies 58 = .ok (.invokevirtual 271, 3) := dk_182 1 15 (dk_at dksX1_modifies_2 10 rfl rfl)
theorem dX1_modifies_61 : decode cX1_modifies 61 = .ok (.ifCond .eq 26, 3) := dk_153 0 26 (dk_at dksX1_modifies_2 13 rfl rfl)
theorem dX1_modifies_64 : decode cX1_modifies 64 = .ok (.aload 6, 2) := dk_25 6 (dk_at dksX1_modifies_2 16 rfl rfl)
theorem dX1_modifies_66 : decode cX1_modifies 66 = .ok (.getfield 136, 3) := dk_180 0 136 (dk_at dksX1_modifies_2 18 rfl rfl)
theorem dX1_modifies_69 : decode cX1_modifies 69 = .ok (.iload_n 1, 1) := dk_27 (dk_at dksX1_modifies_2 21 rfl rfl)
theorem dX1_modifies_70 : decode cX1_modifies 70 = .ok (.if_icmp .eq 13, 3) := dk_159 0 13 (dk_at dksX1_modifies_3 0 rfl rfl)
theorem dX1_modifies_73 : decode cX1_modifies 73 = .ok (.aload_n 2, 1) := dk_44 (dk_at dksX1_modifies_3 3 rfl rfl)
theorem dX1_modifies_74 : decode cX1_modifies 74 = .ok (.aload 6, 2) := dk_25 6 (dk_at dksX1_modifies_3 4 rfl rfl)
theorem dX1_modifies_76 : decode cX1_modifies 76 = .ok (.getfield 136, 3) := dk_180 0 136 (dk_at dksX1_modifies_3 6 rfl rfl)
theorem dX1_modifies_79 : decode cX1_modifies 79 = .ok (.baload, 1) := dk_51 (dk_at dksX1_modifies_3 9 rfl rfl)
theorem dX1_modifies_80 : decode cX1_modifies 80 = .ok (.ifCond .eq 7, 3) := dk_153 0 7 (dk_at dksX1_modifies_3 10 rfl rfl)
theorem dX1_modifies_83 : decode cX1_modifies 83 = .ok (.iconst 1, 1) := dk_4 (dk_at dksX1_modifies_3 13 rfl rfl)
theorem dX1_modifies_84 : decode cX1_modifies 84 = .ok (.goto 4, 3) := dk_167 0 4 (dk_at dksX1_modifies_3 14 rfl rfl)
theorem dX1_modifies_87 : decode cX1_modifies 87 = .ok (.iconst 0, 1) := dk_3 (dk_at dksX1_modifies_3 17 rfl rfl)
theorem dX1_modifies_88 : decode cX1_modifies 88 = .ok (.istore 7, 2) := dk_54 7 (dk_at dksX1_modifies_3 18 rfl rfl)
theorem dX1_modifies_90 : decode cX1_modifies 90 = .ok (.lload_n 3, 1) := dk_33 (dk_at dksX1_modifies_3 20 rfl rfl)
theorem dX1_modifies_91 : decode cX1_modifies 91 = .ok (.iload 7, 2) := dk_21 7 (dk_at dksX1_modifies_3 21 rfl rfl)
theorem dX1_modifies_93 : decode cX1_modifies 93 = .ok (.ifCond .eq 21, 3) := dk_153 0 21 (dk_at dksX1_modifies_4 0 rfl rfl)
theorem dX1_modifies_96 : decode cX1_modifies 96 = .ok (.aload_n 0, 1) := dk_42 (dk_at dksX1_modifies_4 3 rfl rfl)
theorem dX1_modifies_97 : decode cX1_modifies 97 = .ok (.invokevirtual 150, 3) := dk_182 0 150 (dk_at dksX1_modifies_4 4 rfl rfl)
theorem dX1_modifies_100 : decode cX1_modifies 100 = .ok (.aload 6, 2) := dk_25 6 (dk_at dksX1_modifies_4 7 rfl rfl)
theorem dX1_modifies_102 : decode cX1_modifies 102 = .ok (.getfield 129, 3) := dk_180 0 129 (dk_at dksX1_modifies_4 9 rfl rfl)
theorem dX1_modifies_105 : decode cX1_modifies 105 = .ok (.getfield 275, 3) := dk_180 1 19 (dk_at dksX1_modifies_4 12 rfl rfl)
theorem dX1_modifies_108 : decode cX1_modifies 108 = .ok (.invokevirtual 180, 3) := dk_182 0 180 (dk_at dksX1_modifies_4 15 rfl rfl)
theorem dX1_modifies_111 : decode cX1_modifies 111 = .ok (.goto 4, 3) := dk_167 0 4 (dk_at dksX1_modifies_4 18 rfl rfl)
theorem dX1_modifies_114 : decode cX1_modifies 114 = .ok (.lconst 0, 1) := dk_9 (dk_at dksX1_modifies_4 21 rfl rfl)
theorem dX1_modifies_115 : decode cX1_modifies 115 = .ok (.lor, 1) := dk_129 (dk_at dksX1_modifies_4 22 rfl rfl)
theorem dX1_modifies_116 : decode cX1_modifies 116 = .ok (.lstore_n 3, 1) := dk_66 (dk_at dksX1_modifies_4 23 rfl rfl)
theorem dX1_modifies_117 : decode cX1_modifies 117 = .ok (.iinc 5 1, 3) := dk_132 5 1 (dk_at dksX1_modifies_5 0 rfl rfl)
theorem dX1_modifies_120 : decode cX1_modifies 120 = .ok (.goto (-99), 3) := dk_167 255 157 (dk_at dksX1_modifies_5 3 rfl rfl)
theorem dX1_modifies_123 : decode cX1_modifies 123 = .ok (.lload_n 3, 1) := dk_33 (dk_at dksX1_modifies_5 6 rfl rfl)
theorem dX1_modifies_124 : decode cX1_modifies 124 = .ok (.lreturn, 1) := dk_173 (dk_at dksX1_modifies_5 7 rfl rfl)
abbrev cX1_isReachable : ByteArray := prog_1_method_46_code
def yX1_isReachable : MethodName := ⟨RX1, "isReachable", "(I)Z"⟩
def dkwX1_isReachable_1 : List UInt8 := [167, 0, 4, 3, 172]
abbrev dktX1_isReachable_1 : List UInt8 := dkwX1_isReachable_1 ++ []
def dkwX1_isReachable_0 : List UInt8 := [27, 184, 0, 93, 184, 0, 97, 42, 182, 0, 150, 180, 0, 154, 27, 182, 0, 158, 158, 0, 7, 4]
abbrev dktX1_isReachable_0 : List UInt8 := dkwX1_isReachable_0 ++ dktX1_isReachable_1
theorem dksX1_isReachable_0 : cX1_isReachable.data.toList.drop 0 = dktX1_isReachable_0 := by decide +kernel
theorem dksX1_isReachable_1 : cX1_isReachable.data.toList.drop 22 = dktX1_isReachable_1 := dk_seg dksX1_isReachable_0 22 rfl rfl
theorem dX1_isReachable_0 : decode cX1_isReachable 0 = .ok (.iload_n 1, 1) := dk_27 (dk_at dksX1_isReachable_0 0 rfl rfl)
theorem dX1_isReachable_1 : decode cX1_isReachable 1 = .ok (.invokestatic 93, 3) := dk_184 0 93 (dk_at dksX1_isReachable_0 1 rfl rfl)
theorem dX1_isReachable_4 : decode cX1_isReachable 4 = .ok (.invokestatic 97, 3) := dk_184 0 97 (dk_at dksX1_isReachable_0 4 rfl rfl)
theorem dX1_isReachable_7 : decode cX1_isReachable 7 = .ok (.aload_n 0, 1) := dk_42 (dk_at dksX1_isReachable_0 7 rfl rfl)
theorem dX1_isReachable_8 : decode cX1_isReachable 8 = .ok (.invokevirtual 150, 3) := dk_182 0 150 (dk_at dksX1_isReachable_0 8 rfl rfl)
theorem dX1_isReachable_11 : decode cX1_isReachable 11 = .ok (.getfield 154, 3) := dk_180 0 154 (dk_at dksX1_isReachable_0 11 rfl rfl)
theorem dX1_isReachable_14 : decode cX1_isReachable 14 = .ok (.iload_n 1, 1) := dk_27 (dk_at dksX1_isReachable_0 14 rfl rfl)
theorem dX1_isReachable_15 : decode cX1_isReachable 15 = .ok (.invokevirtual 158, 3) := dk_182 0 158 (dk_at dksX1_isReachable_0 15 rfl rfl)
theorem dX1_isReachable_18 : decode cX1_isReachable 18 = .ok (.ifCond .le 7, 3) := dk_158 0 7 (dk_at dksX1_isReachable_0 18 rfl rfl)
theorem dX1_isReachable_21 : decode cX1_isReachable 21 = .ok (.iconst 1, 1) := dk_4 (dk_at dksX1_isReachable_0 21 rfl rfl)
theorem dX1_isReachable_22 : decode cX1_isReachable 22 = .ok (.goto 4, 3) := dk_167 0 4 (dk_at dksX1_isReachable_1 0 rfl rfl)
theorem dX1_isReachable_25 : decode cX1_isReachable 25 = .ok (.iconst 0, 1) := dk_3 (dk_at dksX1_isReachable_1 3 rfl rfl)
theorem dX1_isReachable_26 : decode cX1_isReachable 26 = .ok (.ireturn, 1) := dk_172 (dk_at dksX1_isReachable_1 4 rfl rfl)
abbrev cX1_isRecursive : ByteArray := prog_1_method_47_code
def yX1_isRecursive : MethodName := ⟨RX1, "isRecursive", "(I)Z"⟩
def dkwX1_isRecursive_0 : List UInt8 := [27, 184, 0, 93, 184, 0, 97, 42, 180, 0, 46, 27, 182, 0, 218, 27, 51, 172]
abbrev dktX1_isRecursive_0 : List UInt8 := dkwX1_isRecursive_0 ++ []
theorem dksX1_isRecursive_0 : cX1_isRecursive.data.toList.drop 0 = dktX1_isRecursive_0 := by decide +kernel
theorem dX1_isRecursive_0 : decode cX1_isRecursive 0 = .ok (.iload_n 1, 1) := dk_27 (dk_at dksX1_isRecursive_0 0 rfl rfl)
theorem dX1_isRecursive_1 : decode cX1_isRecursive 1 = .ok (.invokestatic 93, 3) := dk_184 0 93 (dk_at dksX1_isRecursive_0 1 rfl rfl)
theorem dX1_isRecursive_4 : decode cX1_isRecursive 4 = .ok (.invokestatic 97, 3) := dk_184 0 97 (dk_at dksX1_isRecursive_0 4 rfl rfl)
theorem dX1_isRecursive_7 : decode cX1_isRecursive 7 = .ok (.aload_n 0, 1) := dk_42 (dk_at dksX1_isRecursive_0 7 rfl rfl)
theorem dX1_isRecursive_8 : decode cX1_isRecursive 8 = .ok (.getfield 46, 3) := dk_180 0 46 (dk_at dksX1_isRecursive_0 8 rfl rfl)
theorem dX1_isRecursive_11 : decode cX1_isRecursive 11 = .ok (.iload_n 1, 1) := dk_27 (dk_at dksX1_isRecursive_0 11 rfl rfl)
theorem dX1_isRecursive_12 : decode cX1_isRecursive 12 = .ok (.invokevirtual 218, 3) := dk_182 0 218 (dk_at dksX1_isRecursive_0 12 rfl rfl)
theorem dX1_isRecursive_15 : decode cX1_isRecursive 15 = .ok (.iload_n 1, 1) := dk_27 (dk_at dksX1_isRecursive_0 15 rfl rfl)
theorem dX1_isRecursive_16 : decode cX1_isRecursive 16 = .ok (.baload, 1) := dk_51 (dk_at dksX1_isRecursive_0 16 rfl rfl)
theorem dX1_isRecursive_17 : decode cX1_isRecursive 17 = .ok (.ireturn, 1) := dk_172 (dk_at dksX1_isRecursive_0 17 rfl rfl)
abbrev cX1_cycleOf : ByteArray := prog_1_method_49_code
def yX1_cycleOf : MethodName := ⟨RX1, "cycleOf", "(I)I"⟩
def dkwX1_cycleOf_3 : List UInt8 := [128, 62, 132, 4, 1, 167, 255, 199, 29, 172]
abbrev dktX1_cycleOf_3 : List UInt8 := dkwX1_cycleOf_3 ++ []
def dkwX1_cycleOf_2 : List UInt8 := [160, 0, 7, 4, 167, 0, 4, 3, 54, 5, 29, 21, 5, 153, 0, 10, 4, 21, 4, 120, 167, 0, 4, 3]
abbrev dktX1_cycleOf_2 : List UInt8 := dkwX1_cycleOf_2 ++ dktX1_cycleOf_3
def dkwX1_cycleOf_1 : List UInt8 := [162, 0, 56, 44, 27, 46, 21, 4, 122, 4, 126, 4, 160, 0, 19, 44, 21, 4, 46, 27, 122, 4, 126, 4]
abbrev dktX1_cycleOf_1 : List UInt8 := dkwX1_cycleOf_1 ++ dktX1_cycleOf_2
def dkwX1_cycleOf_0 : List UInt8 := [27, 184, 0, 177, 184, 0, 97, 42, 182, 1, 34, 77, 4, 27, 120, 62, 3, 54, 4, 21, 4, 16, 20]
abbrev dktX1_cycleOf_0 : List UInt8 := dkwX1_cycleOf_0 ++ dktX1_cycleOf_1
theorem dksX1_cycleOf_0 : cX1_cycleOf.data.toList.drop 0 = dktX1_cycleOf_0 := by decide +kernel
theorem dksX1_cycleOf_1 : cX1_cycleOf.data.toList.drop 23 = dktX1_cycleOf_1 := dk_seg dksX1_cycleOf_0 23 rfl rfl
theorem dksX1_cycleOf_2 : cX1_cycleOf.data.toList.drop 47 = dktX1_cycleOf_2 := dk_seg dksX1_cycleOf_1 24 rfl rfl
theorem dksX1_cycleOf_3 : cX1_cycleOf.data.toList.drop 71 = dktX1_cycleOf_3 := dk_seg dksX1_cycleOf_2 24 rfl rfl
theorem dX1_cycleOf_0 : decode cX1_cycleOf 0 = .ok (.iload_n 1, 1) := dk_27 (dk_at dksX1_cycleOf_0 0 rfl rfl)
theorem dX1_cycleOf_1 : decode cX1_cycleOf 1 = .ok (.invokestatic 177, 3) := dk_184 0 177 (dk_at dksX1_cycleOf_0 1 rfl rfl)
theorem dX1_cycleOf_4 : decode cX1_cycleOf 4 = .ok (.invokestatic 97, 3) := dk_184 0 97 (dk_at dksX1_cycleOf_0 4 rfl rfl)
theorem dX1_cycleOf_7 : decode cX1_cycleOf 7 = .ok (.aload_n 0, 1) := dk_42 (dk_at dksX1_cycleOf_0 7 rfl rfl)
theorem dX1_cycleOf_8 : decode cX1_cycleOf 8 = .ok (.invokevirtual 290, 3) := dk_182 1 34 (dk_at dksX1_cycleOf_0 8 rfl rfl)
theorem dX1_cycleOf_11 : decode cX1_cycleOf 11 = .ok (.astore_n 2, 1) := dk_77 (dk_at dksX1_cycleOf_0 11 rfl rfl)
theorem dX1_cycleOf_12 : decode cX1_cycleOf 12 = .ok (.iconst 1, 1) := dk_4 (dk_at dksX1_cycleOf_0 12 rfl rfl)
theorem dX1_cycleOf_13 : decode cX1_cycleOf 13 = .ok (.iload_n 1, 1) := dk_27 (dk_at dksX1_cycleOf_0 13 rfl rfl)
theorem dX1_cycleOf_14 : decode cX1_cycleOf 14 = .ok (.ishl, 1) := dk_120 (dk_at dksX1_cycleOf_0 14 rfl rfl)
theorem dX1_cycleOf_15 : decode cX1_cycleOf 15 = .ok (.istore_n 3, 1) := dk_62 (dk_at dksX1_cycleOf_0 15 rfl rfl)
theorem dX1_cycleOf_16 : decode cX1_cycleOf 16 = .ok (.iconst 0, 1) := dk_3 (dk_at dksX1_cycleOf_0 16 rfl rfl)
theorem dX1_cycleOf_17 : decode cX1_cycleOf 17 = .ok (.istore 4, 2) := dk_54 4 (dk_at dksX1_cycleOf_0 17 rfl rfl)
theorem dX1_cycleOf_19 : decode cX1_cycleOf 19 = .ok (.iload 4, 2) := dk_21 4 (dk_at dksX1_cycleOf_0 19 rfl rfl)
theorem dX1_cycleOf_21 : decode cX1_cycleOf 21 = .ok (.bipush 20, 2) := dk_16 20 (dk_at dksX1_cycleOf_0 21 rfl rfl)
theorem dX1_cycleOf_23 : decode cX1_cycleOf 23 = .ok (.if_icmp .ge 56, 3) := dk_162 0 56 (dk_at dksX1_cycleOf_1 0 rfl rfl)
theorem dX1_cycleOf_26 : decode cX1_cycleOf 26 = .ok (.aload_n 2, 1) := dk_44 (dk_at dksX1_cycleOf_1 3 rfl rfl)
theorem dX1_cycleOf_27 : decode cX1_cycleOf 27 = .ok (.iload_n 1, 1) := dk_27 (dk_at dksX1_cycleOf_1 4 rfl rfl)
theorem dX1_cycleOf_28 : decode cX1_cycleOf 28 = .ok (.iaload, 1) := dk_46 (dk_at dksX1_cycleOf_1 5 rfl rfl)
theorem dX1_cycleOf_29 : decode cX1_cycleOf 29 = .ok (.iload 4, 2) := dk_21 4 (dk_at dksX1_cycleOf_1 6 rfl rfl)
theorem dX1_cycleOf_31 : decode cX1_cycleOf 31 = .ok (.ishr, 1) := dk_122 (dk_at dksX1_cycleOf_1 8 rfl rfl)
theorem dX1_cycleOf_32 : decode cX1_cycleOf 32 = .ok (.iconst 1, 1) := dk_4 (dk_at dksX1_cycleOf_1 9 rfl rfl)
theorem dX1_cycleOf_33 : decode cX1_cycleOf 33 = .ok (.iand, 1) := dk_126 (dk_at dksX1_cycleOf_1 10 rfl rfl)
theorem dX1_cycleOf_34 : decode cX1_cycleOf 34 = .ok (.iconst 1, 1) := dk_4 (dk_at dksX1_cycleOf_1 11 rfl rfl)
theorem dX1_cycleOf_35 : decode cX1_cycleOf 35 = .ok (.if_icmp .ne 19, 3) := dk_160 0 19 (dk_at dksX1_cycleOf_1 12 rfl rfl)
theorem dX1_cycleOf_38 : decode cX1_cycleOf 38 = .ok (.aload_n 2, 1) := dk_44 (dk_at dksX1_cycleOf_1 15 rfl rfl)
theorem dX1_cycleOf_39 : decode cX1_cycleOf 39 = .ok (.iload 4, 2) := dk_21 4 (dk_at dksX1_cycleOf_1 16 rfl rfl)
theorem dX1_cycleOf_41 : decode cX1_cycleOf 41 = .ok (.iaload, 1) := dk_46 (dk_at dksX1_cycleOf_1 18 rfl rfl)
theorem dX1_cycleOf_42 : decode cX1_cycleOf 42 = .ok (.iload_n 1, 1) := dk_27 (dk_at dksX1_cycleOf_1 19 rfl rfl)
theorem dX1_cycleOf_43 : decode cX1_cycleOf 43 = .ok (.ishr, 1) := dk_122 (dk_at dksX1_cycleOf_1 20 rfl rfl)
theorem dX1_cycleOf_44 : decode cX1_cycleOf 44 = .ok (.iconst 1, 1) := dk_4 (dk_at dksX1_cycleOf_1 21 rfl rfl)
theorem dX1_cycleOf_45 : decode cX1_cycleOf 45 = .ok (.iand, 1) := dk_126 (dk_at dksX1_cycleOf_1 22 rfl rfl)
theorem dX1_cycleOf_46 : decode cX1_cycleOf 46 = .ok (.iconst 1, 1) := dk_4 (dk_at dksX1_cycleOf_1 23 rfl rfl)
theorem dX1_cycleOf_47 : decode cX1_cycleOf 47 = .ok (.if_icmp .ne 7, 3) := dk_160 0 7 (dk_at dksX1_cycleOf_2 0 rfl rfl)
theorem dX1_cycleOf_50 : decode cX1_cycleOf 50 = .ok (.iconst 1, 1) := dk_4 (dk_at dksX1_cycleOf_2 3 rfl rfl)
theorem dX1_cycleOf_51 : decode cX1_cycleOf 51 = .ok (.goto 4, 3) := dk_167 0 4 (dk_at dksX1_cycleOf_2 4 rfl rfl)
theorem dX1_cycleOf_54 : decode cX1_cycleOf 54 = .ok (.iconst 0, 1) := dk_3 (dk_at dksX1_cycleOf_2 7 rfl rfl)
theorem dX1_cycleOf_55 : decode cX1_cycleOf 55 = .ok (.istore 5, 2) := dk_54 5 (dk_at dksX1_cycleOf_2 8 rfl rfl)
theorem dX1_cycleOf_57 : decode cX1_cycleOf 57 = .ok (.iload_n 3, 1) := dk_29 (dk_at dksX1_cycleOf_2 10 rfl rfl)
theorem dX1_cycleOf_58 : decode cX1_cycleOf 58 = .ok (.iload 5, 2) := dk_21 5 (dk_at dksX1_cycleOf_2 11 rfl rfl)
theorem dX1_cycleOf_60 : decode cX1_cycleOf 60 = .ok (.ifCond .eq 10, 3) := dk_153 0 10 (dk_at dksX1_cycleOf_2 13 rfl rfl)
theorem dX1_cycleOf_63 : decode cX1_cycleOf 63 = .ok (.iconst 1, 1) := dk_4 (dk_at dksX1_cycleOf_2 16 rfl rfl)
theorem dX1_cycleOf_64 : decode cX1_cycleOf 64 = .ok (.iload 4, 2) := dk_21 4 (dk_at dksX1_cycleOf_2 17 rfl rfl)
theorem dX1_cycleOf_66 : decode cX1_cycleOf 66 = .ok (.ishl, 1) := dk_120 (dk_at dksX1_cycleOf_2 19 rfl rfl)
theorem dX1_cycleOf_67 : decode cX1_cycleOf 67 = .ok (.goto 4, 3) := dk_167 0 4 (dk_at dksX1_cycleOf_2 20 rfl rfl)
theorem dX1_cycleOf_70 : decode cX1_cycleOf 70 = .ok (.iconst 0, 1) := dk_3 (dk_at dksX1_cycleOf_2 23 rfl rfl)
theorem dX1_cycleOf_71 : decode cX1_cycleOf 71 = .ok (.ior, 1) := dk_128 (dk_at dksX1_cycleOf_3 0 rfl rfl)
theorem dX1_cycleOf_72 : decode cX1_cycleOf 72 = .ok (.istore_n 3, 1) := dk_62 (dk_at dksX1_cycleOf_3 1 rfl rfl)
theorem dX1_cycleOf_73 : decode cX1_cycleOf 73 = .ok (.iinc 4 1, 3) := dk_132 4 1 (dk_at dksX1_cycleOf_3 2 rfl rfl)
theorem dX1_cycleOf_76 : decode cX1_cycleOf 76 = .ok (.goto (-57), 3) := dk_167 255 199 (dk_at dksX1_cycleOf_3 5 rfl rfl)
theorem dX1_cycleOf_79 : decode cX1_cycleOf 79 = .ok (.iload_n 3, 1) := dk_29 (dk_at dksX1_cycleOf_3 8 rfl rfl)
theorem dX1_cycleOf_80 : decode cX1_cycleOf 80 = .ok (.ireturn, 1) := dk_172 (dk_at dksX1_cycleOf_3 9 rfl rfl)
abbrev cX1_paths : ByteArray := prog_1_method_48_code
def yX1_paths : MethodName := ⟨RX1, "paths", "()[I"⟩
def dkwX1_paths_7 : List UInt8 := [132, 3, 1, 167, 255, 223, 132, 2, 1, 167, 255, 209, 43, 176]
abbrev dktX1_paths_7 : List UInt8 := dkwX1_paths_7 ++ []
def dkwX1_paths_6 : List UInt8 := [29, 92, 46, 43, 29, 46, 28, 122, 4, 126, 4, 160, 0, 9, 43, 28, 46, 167, 0, 4, 3, 128, 79]
abbrev dktX1_paths_6 : List UInt8 := dkwX1_paths_6 ++ dktX1_paths_7
def dkwX1_paths_5 : List UInt8 := [79, 132, 2, 1, 167, 255, 145, 3, 61, 28, 16, 20, 162, 0, 47, 3, 62, 29, 16, 20, 162, 0, 33, 43]
abbrev dktX1_paths_5 : List UInt8 := dkwX1_paths_5 ++ dktX1_paths_6
def dkwX1_paths_4 : List UInt8 := [184, 1, 31, 120, 128, 79, 43, 45, 180, 1, 28, 4, 184, 1, 31, 92, 46, 4, 45, 180, 1, 19, 120, 128]
abbrev dktX1_paths_4 : List UInt8 := dkwX1_paths_4 ++ dktX1_paths_5
def dkwX1_paths_3 : List UInt8 := [180, 0, 31, 178, 0, 113, 166, 0, 41, 43, 45, 180, 1, 25, 92, 46, 4, 45, 180, 1, 28, 3]
abbrev dktX1_paths_3 : List UInt8 := dkwX1_paths_3 ++ dktX1_paths_4
def dkwX1_paths_2 : List UInt8 := [166, 0, 21, 43, 45, 180, 1, 25, 92, 46, 4, 45, 180, 1, 19, 120, 128, 79, 167, 0, 51, 45]
abbrev dktX1_paths_2 : List UInt8 := dkwX1_paths_2 ++ dktX1_paths_3
def dkwX1_paths_1 : List UInt8 := [180, 0, 46, 180, 0, 120, 28, 182, 0, 25, 192, 0, 123, 180, 0, 129, 78, 45, 180, 0, 31, 178, 1, 22]
abbrev dktX1_paths_1 : List UInt8 := dkwX1_paths_1 ++ dktX1_paths_2
def dkwX1_paths_0 : List UInt8 := [16, 20, 188, 10, 76, 3, 61, 28, 42, 180, 0, 46, 180, 0, 120, 182, 0, 19, 162, 0, 103, 42]
abbrev dktX1_paths_0 : List UInt8 := dkwX1_paths_0 ++ dktX1_paths_1
theorem dksX1_paths_0 : cX1_paths.data.toList.drop 0 = dktX1_paths_0 := by decide +kernel
theorem dksX1_paths_1 : cX1_paths.data.toList.drop 22 = dktX1_paths_1 := dk_seg dksX1_paths_0 22 rfl rfl
theorem dksX1_paths_2 : cX1_paths.data.toList.drop 46 = dktX1_paths_2 := dk_seg dksX1_paths_1 24 rfl rfl
theorem dksX1_paths_3 : cX1_paths.data.toList.drop 68 = dktX1_paths_3 := dk_seg dksX1_paths_2 22 rfl rfl
theorem dksX1_paths_4 : cX1_paths.data.toList.drop 90 = dktX1_paths_4 := dk_seg dksX1_paths_3 22 rfl rfl
theorem dksX1_paths_5 : cX1_paths.data.toList.drop 114 = dktX1_paths_5 := dk_seg dksX1_paths_4 24 rfl rfl
theorem dksX1_paths_6 : cX1_paths.data.toList.drop 138 = dktX1_paths_6 := dk_seg dksX1_paths_5 24 rfl rfl
theorem dksX1_paths_7 : cX1_paths.data.toList.drop 161 = dktX1_paths_7 := dk_seg dksX1_paths_6 23 rfl rfl
theorem dX1_paths_0 : decode cX1_paths 0 = .ok (.bipush 20, 2) := dk_16 20 (dk_at dksX1_paths_0 0 rfl rfl)
theorem dX1_paths_2 : decode cX1_paths 2 = .ok (.newarray .int, 2) := dk_188_10 (dk_at dksX1_paths_0 2 rfl rfl)
theorem dX1_paths_4 : decode cX1_paths 4 = .ok (.astore_n 1, 1) := dk_76 (dk_at dksX1_paths_0 4 rfl rfl)
theorem dX1_paths_5 : decode cX1_paths 5 = .ok (.iconst 0, 1) := dk_3 (dk_at dksX1_paths_0 5 rfl rfl)
theorem dX1_paths_6 : decode cX1_paths 6 = .ok (.istore_n 2, 1) := dk_61 (dk_at dksX1_paths_0 6 rfl rfl)
theorem dX1_paths_7 : decode cX1_paths 7 = .ok (.iload_n 2, 1) := dk_28 (dk_at dksX1_paths_0 7 rfl rfl)
theorem dX1_paths_8 : decode cX1_paths 8 = .ok (.aload_n 0, 1) := dk_42 (dk_at dksX1_paths_0 8 rfl rfl)
theorem dX1_paths_9 : decode cX1_paths 9 = .ok (.getfield 46, 3) := dk_180 0 46 (dk_at dksX1_paths_0 9 rfl rfl)
theorem dX1_paths_12 : decode cX1_paths 12 = .ok (.getfield 120, 3) := dk_180 0 120 (dk_at dksX1_paths_0 12 rfl rfl)
theorem dX1_paths_15 : decode cX1_paths 15 = .ok (.invokevirtual 19, 3) := dk_182 0 19 (dk_at dksX1_paths_0 15 rfl rfl)
theorem dX1_paths_18 : decode cX1_paths 18 = .ok (.if_icmp .ge 103, 3) := dk_162 0 103 (dk_at dksX1_paths_0 18 rfl rfl)
theorem dX1_paths_21 : decode cX1_paths 21 = .ok (.aload_n 0, 1) := dk_42 (dk_at dksX1_paths_0 21 rfl rfl)
theorem dX1_paths_22 : decode cX1_paths 22 = .ok (.getfield 46, 3) := dk_180 0 46 (dk_at dksX1_paths_1 0 rfl rfl)
theorem dX1_paths_25 : decode cX1_paths 25 = .ok (.getfield 120, 3) := dk_180 0 120 (dk_at dksX1_paths_1 3 rfl rfl)
theorem dX1_paths_28 : decode cX1_paths 28 = .ok (.iload_n 2, 1) := dk_28 (dk_at dksX1_paths_1 6 rfl rfl)
theorem dX1_paths_29 : decode cX1_paths 29 = .ok (.invokevirtual 25, 3) := dk_182 0 25 (dk_at dksX1_paths_1 7 rfl rfl)
theorem dX1_paths_32 : decode cX1_paths 32 = .ok (.checkcast 123, 3) := dk_192 0 123 (dk_at dksX1_paths_1 10 rfl rfl)
theorem dX1_paths_35 : decode cX1_paths 35 = .ok (.getfield 129, 3) := dk_180 0 129 (dk_at dksX1_paths_1 13 rfl rfl)
theorem dX1_paths_38 : decode cX1_paths 38 = .ok (.astore_n 3, 1) := dk_78 (dk_at dksX1_paths_1 16 rfl rfl)
theorem dX1_paths_39 : decode cX1_paths 39 = .ok (.aload_n 3, 1) := dk_45 (dk_at dksX1_paths_1 17 rfl rfl)
theorem dX1_paths_40 : decode cX1_paths 40 = .ok (.getfield 31, 3) := dk_180 0 31 (dk_at dksX1_paths_1 18 rfl rfl)
theorem dX1_paths_43 : decode cX1_paths 43 = .ok (.getstatic 278, 3) := dk_178 1 22 (dk_at dksX1_paths_1 21 rfl rfl)
theorem dX1_paths_46 : decode cX1_paths 46 = .ok (.if_acmp .ne 21, 3) := dk_166 0 21 (dk_at dksX1_paths_2 0 rfl rfl)
theorem dX1_paths_49 : decode cX1_paths 49 = .ok (.aload_n 1, 1) := dk_43 (dk_at dksX1_paths_2 3 rfl rfl)
theorem dX1_paths_50 : decode cX1_paths 50 = .ok (.aload_n 3, 1) := dk_45 (dk_at dksX1_paths_2 4 rfl rfl)
theorem dX1_paths_51 : decode cX1_paths 51 = .ok (.getfield 281, 3) := dk_180 1 25 (dk_at dksX1_paths_2 5 rfl rfl)
theorem dX1_paths_54 : decode cX1_paths 54 = .ok (.dup2, 1) := dk_92 (dk_at dksX1_paths_2 8 rfl rfl)
theorem dX1_paths_55 : decode cX1_paths 55 = .ok (.iaload, 1) := dk_46 (dk_at dksX1_paths_2 9 rfl rfl)
theorem dX1_paths_56 : decode cX1_paths 56 = .ok (.iconst 1, 1) := dk_4 (dk_at dksX1_paths_2 10 rfl rfl)
theorem dX1_paths_57 : decode cX1_paths 57 = .ok (.aload_n 3, 1) := dk_45 (dk_at dksX1_paths_2 11 rfl rfl)
theorem dX1_paths_58 : decode cX1_paths 58 = .ok (.getfield 275, 3) := dk_180 1 19 (dk_at dksX1_paths_2 12 rfl rfl)
theorem dX1_paths_61 : decode cX1_paths 61 = .ok (.ishl, 1) := dk_120 (dk_at dksX1_paths_2 15 rfl rfl)
theorem dX1_paths_62 : decode cX1_paths 62 = .ok (.ior, 1) := dk_128 (dk_at dksX1_paths_2 16 rfl rfl)
theorem dX1_paths_63 : decode cX1_paths 63 = .ok (.iastore, 1) := dk_79 (dk_at dksX1_paths_2 17 rfl rfl)
theorem dX1_paths_64 : decode cX1_paths 64 = .ok (.goto 51, 3) := dk_167 0 51 (dk_at dksX1_paths_2 18 rfl rfl)
theorem dX1_paths_67 : decode cX1_paths 67 = .ok (.aload_n 3, 1) := dk_45 (dk_at dksX1_paths_2 21 rfl rfl)
theorem dX1_paths_68 : decode cX1_paths 68 = .ok (.getfield 31, 3) := dk_180 0 31 (dk_at dksX1_paths_3 0 rfl rfl)
theorem dX1_paths_71 : decode cX1_paths 71 = .ok (.getstatic 113, 3) := dk_178 0 113 (dk_at dksX1_paths_3 3 rfl rfl)
theorem dX1_paths_74 : decode cX1_paths 74 = .ok (.if_acmp .ne 41, 3) := dk_166 0 41 (dk_at dksX1_paths_3 6 rfl rfl)
theorem dX1_paths_77 : decode cX1_paths 77 = .ok (.aload_n 1, 1) := dk_43 (dk_at dksX1_paths_3 9 rfl rfl)
theorem dX1_paths_78 : decode cX1_paths 78 = .ok (.aload_n 3, 1) := dk_45 (dk_at dksX1_paths_3 10 rfl rfl)
theorem dX1_paths_79 : decode cX1_paths 79 = .ok (.getfield 281, 3) := dk_180 1 25 (dk_at dksX1_paths_3 11 rfl rfl)
theorem dX1_paths_82 : decode cX1_paths 82 = .ok (.dup2, 1) := dk_92 (dk_at dksX1_paths_3 14 rfl rfl)
theorem dX1_paths_83 : decode cX1_paths 83 = .ok (.iaload, 1) := dk_46 (dk_at dksX1_paths_3 15 rfl rfl)
theorem dX1_paths_84 : decode cX1_paths 84 = .ok (.iconst 1, 1) := dk_4 (dk_at dksX1_paths_3 16 rfl rfl)
theorem dX1_paths_85 : decode cX1_paths 85 = .ok (.aload_n 3, 1) := dk_45 (dk_at dksX1_paths_3 17 rfl rfl)
theorem dX1_paths_86 : decode cX1_paths 86 = .ok (.getfield 284, 3) := dk_180 1 28 (dk_at dksX1_paths_3 18 rfl rfl)
theorem dX1_paths_89 : decode cX1_paths 89 = .ok (.iconst 0, 1) := dk_3 (dk_at dksX1_paths_3 21 rfl rfl)
theorem dX1_paths_90 : decode cX1_paths 90 = .ok (.invokestatic 287, 3) := dk_184 1 31 (dk_at dksX1_paths_4 0 rfl rfl)
theorem dX1_paths_93 : decode cX1_paths 93 = .ok (.ishl, 1) := dk_120 (dk_at dksX1_paths_4 3 rfl rfl)
theorem dX1_paths_94 : decode cX1_paths 94 = .ok (.ior, 1) := dk_128 (dk_at dksX1_paths_4 4 rfl rfl)
theorem dX1_paths_95 : decode cX1_paths 95 = .ok (.iastore, 1) := dk_79 (dk_at dksX1_paths_4 5 rfl rfl)
theorem dX1_paths_96 : decode cX1_paths 96 = .ok (.aload_n 1, 1) := dk_43 (dk_at dksX1_paths_4 6 rfl rfl)
theorem dX1_paths_97 : decode cX1_paths 97 = .ok (.aload_n 3, 1) := dk_45 (dk_at dksX1_paths_4 7 rfl rfl)
theorem dX1_paths_98 : decode cX1_paths 98 = .ok (.getfield 284, 3) := dk_180 1 28 (dk_at dksX1_paths_4 8 rfl rfl)
theorem dX1_paths_101 : decode cX1_paths 101 = .ok (.iconst 1, 1) := dk_4 (dk_at dksX1_paths_4 11 rfl rfl)
theorem dX1_paths_102 : decode cX1_paths 102 = .ok (.invokestatic 287, 3) := dk_184 1 31 (dk_at dksX1_paths_4 12 rfl rfl)
theorem dX1_paths_105 : decode cX1_paths 105 = .ok (.dup2, 1) := dk_92 (dk_at dksX1_paths_4 15 rfl rfl)
theorem dX1_paths_106 : decode cX1_paths 106 = .ok (.iaload, 1) := dk_46 (dk_at dksX1_paths_4 16 rfl rfl)
theorem dX1_paths_107 : decode cX1_paths 107 = .ok (.iconst 1, 1) := dk_4 (dk_at dksX1_paths_4 17 rfl rfl)
theorem dX1_paths_108 : decode cX1_paths 108 = .ok (.aload_n 3, 1) := dk_45 (dk_at dksX1_paths_4 18 rfl rfl)
theorem dX1_paths_109 : decode cX1_paths 109 = .ok (.getfield 275, 3) := dk_180 1 19 (dk_at dksX1_paths_4 19 rfl rfl)
theorem dX1_paths_112 : decode cX1_paths 112 = .ok (.ishl, 1) := dk_120 (dk_at dksX1_paths_4 22 rfl rfl)
theorem dX1_paths_113 : decode cX1_paths 113 = .ok (.ior, 1) := dk_128 (dk_at dksX1_paths_4 23 rfl rfl)
theorem dX1_paths_114 : decode cX1_paths 114 = .ok (.iastore, 1) := dk_79 (dk_at dksX1_paths_5 0 rfl rfl)
theorem dX1_paths_115 : decode cX1_paths 115 = .ok (.iinc 2 1, 3) := dk_132 2 1 (dk_at dksX1_paths_5 1 rfl rfl)
theorem dX1_paths_118 : decode cX1_paths 118 = .ok (.goto (-111), 3) := dk_167 255 145 (dk_at dksX1_paths_5 4 rfl rfl)
theorem dX1_paths_121 : decode cX1_paths 121 = .ok (.iconst 0, 1) := dk_3 (dk_at dksX1_paths_5 7 rfl rfl)
theorem dX1_paths_122 : decode cX1_paths 122 = .ok (.istore_n 2, 1) := dk_61 (dk_at dksX1_paths_5 8 rfl rfl)
theorem dX1_paths_123 : decode cX1_paths 123 = .ok (.iload_n 2, 1) := dk_28 (dk_at dksX1_paths_5 9 rfl rfl)
theorem dX1_paths_124 : decode cX1_paths 124 = .ok (.bipush 20, 2) := dk_16 20 (dk_at dksX1_paths_5 10 rfl rfl)
theorem dX1_paths_126 : decode cX1_paths 126 = .ok (.if_icmp .ge 47, 3) := dk_162 0 47 (dk_at dksX1_paths_5 12 rfl rfl)
theorem dX1_paths_129 : decode cX1_paths 129 = .ok (.iconst 0, 1) := dk_3 (dk_at dksX1_paths_5 15 rfl rfl)
theorem dX1_paths_130 : decode cX1_paths 130 = .ok (.istore_n 3, 1) := dk_62 (dk_at dksX1_paths_5 16 rfl rfl)
theorem dX1_paths_131 : decode cX1_paths 131 = .ok (.iload_n 3, 1) := dk_29 (dk_at dksX1_paths_5 17 rfl rfl)
theorem dX1_paths_132 : decode cX1_paths 132 = .ok (.bipush 20, 2) := dk_16 20 (dk_at dksX1_paths_5 18 rfl rfl)
theorem dX1_paths_134 : decode cX1_paths 134 = .ok (.if_icmp .ge 33, 3) := dk_162 0 33 (dk_at dksX1_paths_5 20 rfl rfl)
theorem dX1_paths_137 : decode cX1_paths 137 = .ok (.aload_n 1, 1) := dk_43 (dk_at dksX1_paths_5 23 rfl rfl)
theorem dX1_paths_138 : decode cX1_paths 138 = .ok (.iload_n 3, 1) := dk_29 (dk_at dksX1_paths_6 0 rfl rfl)
theorem dX1_paths_139 : decode cX1_paths 139 = .ok (.dup2, 1) := dk_92 (dk_at dksX1_paths_6 1 rfl rfl)
theorem dX1_paths_140 : decode cX1_paths 140 = .ok (.iaload, 1) := dk_46 (dk_at dksX1_paths_6 2 rfl rfl)
theorem dX1_paths_141 : decode cX1_paths 141 = .ok (.aload_n 1, 1) := dk_43 (dk_at dksX1_paths_6 3 rfl rfl)
theorem dX1_paths_142 : decode cX1_paths 142 = .ok (.iload_n 3, 1) := dk_29 (dk_at dksX1_paths_6 4 rfl rfl)
theorem dX1_paths_143 : decode cX1_paths 143 = .ok (.iaload, 1) := dk_46 (dk_at dksX1_paths_6 5 rfl rfl)
theorem dX1_paths_144 : decode cX1_paths 144 = .ok (.iload_n 2, 1) := dk_28 (dk_at dksX1_paths_6 6 rfl rfl)
theorem dX1_paths_145 : decode cX1_paths 145 = .ok (.ishr, 1) := dk_122 (dk_at dksX1_paths_6 7 rfl rfl)
theorem dX1_paths_146 : decode cX1_paths 146 = .ok (.iconst 1, 1) := dk_4 (dk_at dksX1_paths_6 8 rfl rfl)
theorem dX1_paths_147 : decode cX1_paths 147 = .ok (.iand, 1) := dk_126 (dk_at dksX1_paths_6 9 rfl rfl)
theorem dX1_paths_148 : decode cX1_paths 148 = .ok (.iconst 1, 1) := dk_4 (dk_at dksX1_paths_6 10 rfl rfl)
theorem dX1_paths_149 : decode cX1_paths 149 = .ok (.if_icmp .ne 9, 3) := dk_160 0 9 (dk_at dksX1_paths_6 11 rfl rfl)
theorem dX1_paths_152 : decode cX1_paths 152 = .ok (.aload_n 1, 1) := dk_43 (dk_at dksX1_paths_6 14 rfl rfl)
theorem dX1_paths_153 : decode cX1_paths 153 = .ok (.iload_n 2, 1) := dk_28 (dk_at dksX1_paths_6 15 rfl rfl)
theorem dX1_paths_154 : decode cX1_paths 154 = .ok (.iaload, 1) := dk_46 (dk_at dksX1_paths_6 16 rfl rfl)
theorem dX1_paths_155 : decode cX1_paths 155 = .ok (.goto 4, 3) := dk_167 0 4 (dk_at dksX1_paths_6 17 rfl rfl)
theorem dX1_paths_158 : decode cX1_paths 158 = .ok (.iconst 0, 1) := dk_3 (dk_at dksX1_paths_6 20 rfl rfl)
theorem dX1_paths_159 : decode cX1_paths 159 = .ok (.ior, 1) := dk_128 (dk_at dksX1_paths_6 21 rfl rfl)
theorem dX1_paths_160 : decode cX1_paths 160 = .ok (.iastore, 1) := dk_79 (dk_at dksX1_paths_6 22 rfl rfl)
theorem dX1_paths_161 : decode cX1_paths 161 = .ok (.iinc 3 1, 3) := dk_132 3 1 (dk_at dksX1_paths_7 0 rfl rfl)
theorem dX1_paths_164 : decode cX1_paths 164 = .ok (.goto (-33), 3) := dk_167 255 223 (dk_at dksX1_paths_7 3 rfl rfl)
theorem dX1_paths_167 : decode cX1_paths 167 = .ok (.iinc 2 1, 3) := dk_132 2 1 (dk_at dksX1_paths_7 6 rfl rfl)
theorem dX1_paths_170 : decode cX1_paths 170 = .ok (.goto (-47), 3) := dk_167 255 209 (dk_at dksX1_paths_7 9 rfl rfl)
theorem dX1_paths_173 : decode cX1_paths 173 = .ok (.aload_n 1, 1) := dk_43 (dk_at dksX1_paths_7 12 rfl rfl)
theorem dX1_paths_174 : decode cX1_paths 174 = .ok (.areturn, 1) := dk_176 (dk_at dksX1_paths_7 13 rfl rfl)
abbrev cX1_observed : ByteArray := prog_1_method_51_code
def yX1_observed : MethodName := ⟨RX1, "observed", "(I)J"⟩
def dkwX1_observed_1 : List UInt8 := [180, 1, 44, 27, 47, 173]
abbrev dktX1_observed_1 : List UInt8 := dkwX1_observed_1 ++ []
def dkwX1_observed_0 : List UInt8 := [27, 184, 0, 177, 184, 0, 97, 42, 180, 0, 89, 199, 0, 7, 9, 167, 0, 12, 42, 180, 0, 89]
abbrev dktX1_observed_0 : List UInt8 := dkwX1_observed_0 ++ dktX1_observed_1
theorem dksX1_observed_0 : cX1_observed.data.toList.drop 0 = dktX1_observed_0 := by decide +kernel
theorem dksX1_observed_1 : cX1_observed.data.toList.drop 22 = dktX1_observed_1 := dk_seg dksX1_observed_0 22 rfl rfl
theorem dX1_observed_0 : decode cX1_observed 0 = .ok (.iload_n 1, 1) := dk_27 (dk_at dksX1_observed_0 0 rfl rfl)
theorem dX1_observed_1 : decode cX1_observed 1 = .ok (.invokestatic 177, 3) := dk_184 0 177 (dk_at dksX1_observed_0 1 rfl rfl)
theorem dX1_observed_4 : decode cX1_observed 4 = .ok (.invokestatic 97, 3) := dk_184 0 97 (dk_at dksX1_observed_0 4 rfl rfl)
theorem dX1_observed_7 : decode cX1_observed 7 = .ok (.aload_n 0, 1) := dk_42 (dk_at dksX1_observed_0 7 rfl rfl)
theorem dX1_observed_8 : decode cX1_observed 8 = .ok (.getfield 89, 3) := dk_180 0 89 (dk_at dksX1_observed_0 8 rfl rfl)
theorem dX1_observed_11 : decode cX1_observed 11 = .ok (.ifnonnull 7, 3) := dk_199 0 7 (dk_at dksX1_observed_0 11 rfl rfl)
theorem dX1_observed_14 : decode cX1_observed 14 = .ok (.lconst 0, 1) := dk_9 (dk_at dksX1_observed_0 14 rfl rfl)
theorem dX1_observed_15 : decode cX1_observed 15 = .ok (.goto 12, 3) := dk_167 0 12 (dk_at dksX1_observed_0 15 rfl rfl)
theorem dX1_observed_18 : decode cX1_observed 18 = .ok (.aload_n 0, 1) := dk_42 (dk_at dksX1_observed_0 18 rfl rfl)
theorem dX1_observed_19 : decode cX1_observed 19 = .ok (.getfield 89, 3) := dk_180 0 89 (dk_at dksX1_observed_0 19 rfl rfl)
theorem dX1_observed_22 : decode cX1_observed 22 = .ok (.getfield 300, 3) := dk_180 1 44 (dk_at dksX1_observed_1 0 rfl rfl)
theorem dX1_observed_25 : decode cX1_observed 25 = .ok (.iload_n 1, 1) := dk_27 (dk_at dksX1_observed_1 3 rfl rfl)
theorem dX1_observed_26 : decode cX1_observed 26 = .ok (.laload, 1) := dk_47 (dk_at dksX1_observed_1 4 rfl rfl)
theorem dX1_observed_27 : decode cX1_observed 27 = .ok (.lreturn, 1) := dk_173 (dk_at dksX1_observed_1 5 rfl rfl)
abbrev cX1_fieldObserved : ByteArray := prog_1_method_52_code
def yX1_fieldObserved : MethodName := ⟨RX1, "fieldObserved", "(II)J"⟩
def dkwX1_fieldObserved_1 : List UInt8 := [180, 1, 44, 29, 47, 173]
abbrev dktX1_fieldObserved_1 : List UInt8 := dkwX1_fieldObserved_1 ++ []
def dkwX1_fieldObserved_0 : List UInt8 := [42, 27, 28, 182, 0, 199, 62, 42, 180, 0, 89, 199, 0, 7, 9, 167, 0, 12, 42, 180, 0, 89]
abbrev dktX1_fieldObserved_0 : List UInt8 := dkwX1_fieldObserved_0 ++ dktX1_fieldObserved_1
theorem dksX1_fieldObserved_0 : cX1_fieldObserved.data.toList.drop 0 = dktX1_fieldObserved_0 := by decide +kernel
theorem dksX1_fieldObserved_1 : cX1_fieldObserved.data.toList.drop 22 = dktX1_fieldObserved_1 := dk_seg dksX1_fieldObserved_0 22 rfl rfl
theorem dX1_fieldObserved_0 : decode cX1_fieldObserved 0 = .ok (.aload_n 0, 1) := dk_42 (dk_at dksX1_fieldObserved_0 0 rfl rfl)
theorem dX1_fieldObserved_1 : decode cX1_fieldObserved 1 = .ok (.iload_n 1, 1) := dk_27 (dk_at dksX1_fieldObserved_0 1 rfl rfl)
theorem dX1_fieldObserved_2 : decode cX1_fieldObserved 2 = .ok (.iload_n 2, 1) := dk_28 (dk_at dksX1_fieldObserved_0 2 rfl rfl)
theorem dX1_fieldObserved_3 : decode cX1_fieldObserved 3 = .ok (.invokevirtual 199, 3) := dk_182 0 199 (dk_at dksX1_fieldObserved_0 3 rfl rfl)
theorem dX1_fieldObserved_6 : decode cX1_fieldObserved 6 = .ok (.istore_n 3, 1) := dk_62 (dk_at dksX1_fieldObserved_0 6 rfl rfl)
theorem dX1_fieldObserved_7 : decode cX1_fieldObserved 7 = .ok (.aload_n 0, 1) := dk_42 (dk_at dksX1_fieldObserved_0 7 rfl rfl)
theorem dX1_fieldObserved_8 : decode cX1_fieldObserved 8 = .ok (.getfield 89, 3) := dk_180 0 89 (dk_at dksX1_fieldObserved_0 8 rfl rfl)
theorem dX1_fieldObserved_11 : decode cX1_fieldObserved 11 = .ok (.ifnonnull 7, 3) := dk_199 0 7 (dk_at dksX1_fieldObserved_0 11 rfl rfl)
theorem dX1_fieldObserved_14 : decode cX1_fieldObserved 14 = .ok (.lconst 0, 1) := dk_9 (dk_at dksX1_fieldObserved_0 14 rfl rfl)
theorem dX1_fieldObserved_15 : decode cX1_fieldObserved 15 = .ok (.goto 12, 3) := dk_167 0 12 (dk_at dksX1_fieldObserved_0 15 rfl rfl)
theorem dX1_fieldObserved_18 : decode cX1_fieldObserved 18 = .ok (.aload_n 0, 1) := dk_42 (dk_at dksX1_fieldObserved_0 18 rfl rfl)
theorem dX1_fieldObserved_19 : decode cX1_fieldObserved 19 = .ok (.getfield 89, 3) := dk_180 0 89 (dk_at dksX1_fieldObserved_0 19 rfl rfl)
theorem dX1_fieldObserved_22 : decode cX1_fieldObserved 22 = .ok (.getfield 300, 3) := dk_180 1 44 (dk_at dksX1_fieldObserved_1 0 rfl rfl)
theorem dX1_fieldObserved_25 : decode cX1_fieldObserved 25 = .ok (.iload_n 3, 1) := dk_29 (dk_at dksX1_fieldObserved_1 3 rfl rfl)
theorem dX1_fieldObserved_26 : decode cX1_fieldObserved 26 = .ok (.laload, 1) := dk_47 (dk_at dksX1_fieldObserved_1 4 rfl rfl)
theorem dX1_fieldObserved_27 : decode cX1_fieldObserved 27 = .ok (.lreturn, 1) := dk_173 (dk_at dksX1_fieldObserved_1 5 rfl rfl)
abbrev cX1_precision : ByteArray := prog_1_method_55_code
def yX1_precision : MethodName := ⟨RX1, "precision", "()D"⟩
def dkwX1_precision_3 : List UInt8 := [183, 1, 59, 191, 28, 135, 29, 135, 111, 175]
abbrev dktX1_precision_3 : List UInt8 := dkwX1_precision_3 ++ []
def dkwX1_precision_2 : List UInt8 := [182, 0, 252, 184, 1, 54, 96, 62, 132, 4, 1, 167, 255, 219, 29, 154, 0, 11, 187, 1, 57, 89]
abbrev dktX1_precision_2 : List UInt8 := dkwX1_precision_2 ++ dktX1_precision_3
def dkwX1_precision_1 : List UInt8 := [162, 0, 36, 28, 42, 182, 0, 150, 21, 4, 182, 0, 180, 184, 1, 54, 96, 61, 29, 43, 21, 4]
abbrev dktX1_precision_1 : List UInt8 := dkwX1_precision_1 ++ dktX1_precision_2
def dkwX1_precision_0 : List UInt8 := [187, 0, 248, 89, 42, 180, 0, 46, 183, 0, 250, 76, 3, 61, 3, 62, 3, 54, 4, 21, 4, 16, 20]
abbrev dktX1_precision_0 : List UInt8 := dkwX1_precision_0 ++ dktX1_precision_1
theorem dksX1_precision_0 : cX1_precision.data.toList.drop 0 = dktX1_precision_0 := by decide +kernel
theorem dksX1_precision_1 : cX1_precision.data.toList.drop 23 = dktX1_precision_1 := dk_seg dksX1_precision_0 23 rfl rfl
theorem dksX1_precision_2 : cX1_precision.data.toList.drop 45 = dktX1_precision_2 := dk_seg dksX1_precision_1 22 rfl rfl
theorem dksX1_precision_3 : cX1_precision.data.toList.drop 67 = dktX1_precision_3 := dk_seg dksX1_precision_2 22 rfl rfl
theorem dX1_precision_0 : decode cX1_precision 0 = .ok (.new 248, 3) := dk_187 0 248 (dk_at dksX1_precision_0 0 rfl rfl)
theorem dX1_precision_3 : decode cX1_precision 3 = .ok (.dup, 1) := dk_89 (dk_at dksX1_precision_0 3 rfl rfl)
theorem dX1_precision_4 : decode cX1_precision 4 = .ok (.aload_n 0, 1) := dk_42 (dk_at dksX1_precision_0 4 rfl rfl)
theorem dX1_precision_5 : decode cX1_precision 5 = .ok (.getfield 46, 3) := dk_180 0 46 (dk_at dksX1_precision_0 5 rfl rfl)
theorem dX1_precision_8 : decode cX1_precision 8 = .ok (.invokespecial 250, 3) := dk_183 0 250 (dk_at dksX1_precision_0 8 rfl rfl)
theorem dX1_precision_11 : decode cX1_precision 11 = .ok (.astore_n 1, 1) := dk_76 (dk_at dksX1_precision_0 11 rfl rfl)
theorem dX1_precision_12 : decode cX1_precision 12 = .ok (.iconst 0, 1) := dk_3 (dk_at dksX1_precision_0 12 rfl rfl)
theorem dX1_precision_13 : decode cX1_precision 13 = .ok (.istore_n 2, 1) := dk_61 (dk_at dksX1_precision_0 13 rfl rfl)
theorem dX1_precision_14 : decode cX1_precision 14 = .ok (.iconst 0, 1) := dk_3 (dk_at dksX1_precision_0 14 rfl rfl)
theorem dX1_precision_15 : decode cX1_precision 15 = .ok (.istore_n 3, 1) := dk_62 (dk_at dksX1_precision_0 15 rfl rfl)
theorem dX1_precision_16 : decode cX1_precision 16 = .ok (.iconst 0, 1) := dk_3 (dk_at dksX1_precision_0 16 rfl rfl)
theorem dX1_precision_17 : decode cX1_precision 17 = .ok (.istore 4, 2) := dk_54 4 (dk_at dksX1_precision_0 17 rfl rfl)
theorem dX1_precision_19 : decode cX1_precision 19 = .ok (.iload 4, 2) := dk_21 4 (dk_at dksX1_precision_0 19 rfl rfl)
theorem dX1_precision_21 : decode cX1_precision 21 = .ok (.bipush 20, 2) := dk_16 20 (dk_at dksX1_precision_0 21 rfl rfl)
theorem dX1_precision_23 : decode cX1_precision 23 = .ok (.if_icmp .ge 36, 3) := dk_162 0 36 (dk_at dksX1_precision_1 0 rfl rfl)
theorem dX1_precision_26 : decode cX1_precision 26 = .ok (.iload_n 2, 1) := dk_28 (dk_at dksX1_precision_1 3 rfl rfl)
theorem dX1_precision_27 : decode cX1_precision 27 = .ok (.aload_n 0, 1) := dk_42 (dk_at dksX1_precision_1 4 rfl rfl)
theorem dX1_precision_28 : decode cX1_precision 28 = .ok (.invokevirtual 150, 3) := dk_182 0 150 (dk_at dksX1_precision_1 5 rfl rfl)
theorem dX1_precision_31 : decode cX1_precision 31 = .ok (.iload 4, 2) := dk_21 4 (dk_at dksX1_precision_1 8 rfl rfl)
theorem dX1_precision_33 : decode cX1_precision 33 = .ok (.invokevirtual 180, 3) := dk_182 0 180 (dk_at dksX1_precision_1 10 rfl rfl)
theorem dX1_precision_36 : decode cX1_precision 36 = .ok (.invokestatic 310, 3) := dk_184 1 54 (dk_at dksX1_precision_1 13 rfl rfl)
theorem dX1_precision_39 : decode cX1_precision 39 = .ok (.iadd, 1) := dk_96 (dk_at dksX1_precision_1 16 rfl rfl)
theorem dX1_precision_40 : decode cX1_precision 40 = .ok (.istore_n 2, 1) := dk_61 (dk_at dksX1_precision_1 17 rfl rfl)
theorem dX1_precision_41 : decode cX1_precision 41 = .ok (.iload_n 3, 1) := dk_29 (dk_at dksX1_precision_1 18 rfl rfl)
theorem dX1_precision_42 : decode cX1_precision 42 = .ok (.aload_n 1, 1) := dk_43 (dk_at dksX1_precision_1 19 rfl rfl)
theorem dX1_precision_43 : decode cX1_precision 43 = .ok (.iload 4, 2) := dk_21 4 (dk_at dksX1_precision_1 20 rfl rfl)
theorem dX1_precision_45 : decode cX1_precision 45 = .ok (.invokevirtual 252, 3) := dk_182 0 252 (dk_at dksX1_precision_2 0 rfl rfl)
theorem dX1_precision_48 : decode cX1_precision 48 = .ok (.invokestatic 310, 3) := dk_184 1 54 (dk_at dksX1_precision_2 3 rfl rfl)
theorem dX1_precision_51 : decode cX1_precision 51 = .ok (.iadd, 1) := dk_96 (dk_at dksX1_precision_2 6 rfl rfl)
theorem dX1_precision_52 : decode cX1_precision 52 = .ok (.istore_n 3, 1) := dk_62 (dk_at dksX1_precision_2 7 rfl rfl)
theorem dX1_precision_53 : decode cX1_precision 53 = .ok (.iinc 4 1, 3) := dk_132 4 1 (dk_at dksX1_precision_2 8 rfl rfl)
theorem dX1_precision_56 : decode cX1_precision 56 = .ok (.goto (-37), 3) := dk_167 255 219 (dk_at dksX1_precision_2 11 rfl rfl)
theorem dX1_precision_59 : decode cX1_precision 59 = .ok (.iload_n 3, 1) := dk_29 (dk_at dksX1_precision_2 14 rfl rfl)
theorem dX1_precision_60 : decode cX1_precision 60 = .ok (.ifCond .ne 11, 3) := dk_154 0 11 (dk_at dksX1_precision_2 15 rfl rfl)
theorem dX1_precision_63 : decode cX1_precision 63 = .ok (.new 313, 3) := dk_187 1 57 (dk_at dksX1_precision_2 18 rfl rfl)
theorem dX1_precision_66 : decode cX1_precision 66 = .ok (.dup, 1) := dk_89 (dk_at dksX1_precision_2 21 rfl rfl)
theorem dX1_precision_67 : decode cX1_precision 67 = .ok (.invokespecial 315, 3) := dk_183 1 59 (dk_at dksX1_precision_3 0 rfl rfl)
theorem dX1_precision_70 : decode cX1_precision 70 = .ok (.athrow, 1) := dk_191 (dk_at dksX1_precision_3 3 rfl rfl)
theorem dX1_precision_71 : decode cX1_precision 71 = .ok (.iload_n 2, 1) := dk_28 (dk_at dksX1_precision_3 4 rfl rfl)
theorem dX1_precision_72 : decode cX1_precision 72 = .ok (.i2d, 1) := dk_135 (dk_at dksX1_precision_3 5 rfl rfl)
theorem dX1_precision_73 : decode cX1_precision 73 = .ok (.iload_n 3, 1) := dk_29 (dk_at dksX1_precision_3 6 rfl rfl)
theorem dX1_precision_74 : decode cX1_precision 74 = .ok (.i2d, 1) := dk_135 (dk_at dksX1_precision_3 7 rfl rfl)
theorem dX1_precision_75 : decode cX1_precision 75 = .ok (.ddiv, 1) := dk_111 (dk_at dksX1_precision_3 8 rfl rfl)
theorem dX1_precision_76 : decode cX1_precision 76 = .ok (.dreturn, 1) := dk_175 (dk_at dksX1_precision_3 9 rfl rfl)
abbrev cX1_averageTargets : ByteArray := prog_1_method_56_code
def yX1_averageTargets : MethodName := ⟨RX1, "averageTargets", "()F"⟩
def dkwX1_averageTargets_2 : List UInt8 := [167, 255, 216, 28, 154, 0, 11, 187, 1, 57, 89, 183, 1, 59, 191, 27, 134, 28, 134, 110, 174]
abbrev dktX1_averageTargets_2 : List UInt8 := dkwX1_averageTargets_2 ++ []
def dkwX1_averageTargets_1 : List UInt8 := [54, 4, 27, 21, 4, 96, 60, 28, 21, 4, 158, 0, 7, 4, 167, 0, 4, 3, 96, 61, 132, 3, 1]
abbrev dktX1_averageTargets_1 : List UInt8 := dkwX1_averageTargets_1 ++ dktX1_averageTargets_2
def dkwX1_averageTargets_0 : List UInt8 := [3, 60, 3, 61, 3, 62, 29, 16, 20, 162, 0, 40, 42, 182, 0, 150, 29, 182, 0, 180, 184, 1, 54]
abbrev dktX1_averageTargets_0 : List UInt8 := dkwX1_averageTargets_0 ++ dktX1_averageTargets_1
theorem dksX1_averageTargets_0 : cX1_averageTargets.data.toList.drop 0 = dktX1_averageTargets_0 := by decide +kernel
theorem dksX1_averageTargets_1 : cX1_averageTargets.data.toList.drop 23 = dktX1_averageTargets_1 := dk_seg dksX1_averageTargets_0 23 rfl rfl
theorem dksX1_averageTargets_2 : cX1_averageTargets.data.toList.drop 46 = dktX1_averageTargets_2 := dk_seg dksX1_averageTargets_1 23 rfl rfl
theorem dX1_averageTargets_0 : decode cX1_averageTargets 0 = .ok (.iconst 0, 1) := dk_3 (dk_at dksX1_averageTargets_0 0 rfl rfl)
theorem dX1_averageTargets_1 : decode cX1_averageTargets 1 = .ok (.istore_n 1, 1) := dk_60 (dk_at dksX1_averageTargets_0 1 rfl rfl)
theorem dX1_averageTargets_2 : decode cX1_averageTargets 2 = .ok (.iconst 0, 1) := dk_3 (dk_at dksX1_averageTargets_0 2 rfl rfl)
theorem dX1_averageTargets_3 : decode cX1_averageTargets 3 = .ok (.istore_n 2, 1) := dk_61 (dk_at dksX1_averageTargets_0 3 rfl rfl)
theorem dX1_averageTargets_4 : decode cX1_averageTargets 4 = .ok (.iconst 0, 1) := dk_3 (dk_at dksX1_averageTargets_0 4 rfl rfl)
theorem dX1_averageTargets_5 : decode cX1_averageTargets 5 = .ok (.istore_n 3, 1) := dk_62 (dk_at dksX1_averageTargets_0 5 rfl rfl)
theorem dX1_averageTargets_6 : decode cX1_averageTargets 6 = .ok (.iload_n 3, 1) := dk_29 (dk_at dksX1_averageTargets_0 6 rfl rfl)
theorem dX1_averageTargets_7 : decode cX1_averageTargets 7 = .ok (.bipush 20, 2) := dk_16 20 (dk_at dksX1_averageTargets_0 7 rfl rfl)
theorem dX1_averageTargets_9 : decode cX1_averageTargets 9 = .ok (.if_icmp .ge 40, 3) := dk_162 0 40 (dk_at dksX1_averageTargets_0 9 rfl rfl)
theorem dX1_averageTargets_12 : decode cX1_averageTargets 12 = .ok (.aload_n 0, 1) := dk_42 (dk_at dksX1_averageTargets_0 12 rfl rfl)
theorem dX1_averageTargets_13 : decode cX1_averageTargets 13 = .ok (.invokevirtual 150, 3) := dk_182 0 150 (dk_at dksX1_averageTargets_0 13 rfl rfl)
theorem dX1_averageTargets_16 : decode cX1_averageTargets 16 = .ok (.iload_n 3, 1) := dk_29 (dk_at dksX1_averageTargets_0 16 rfl rfl)
theorem dX1_averageTargets_17 : decode cX1_averageTargets 17 = .ok (.invokevirtual 180, 3) := dk_182 0 180 (dk_at dksX1_averageTargets_0 17 rfl rfl)
theorem dX1_averageTargets_20 : decode cX1_averageTargets 20 = .ok (.invokestatic 310, 3) := dk_184 1 54 (dk_at dksX1_averageTargets_0 20 rfl rfl)
theorem dX1_averageTargets_23 : decode cX1_averageTargets 23 = .ok (.istore 4, 2) := dk_54 4 (dk_at dksX1_averageTargets_1 0 rfl rfl)
theorem dX1_averageTargets_25 : decode cX1_averageTargets 25 = .ok (.iload_n 1, 1) := dk_27 (dk_at dksX1_averageTargets_1 2 rfl rfl)
theorem dX1_averageTargets_26 : decode cX1_averageTargets 26 = .ok (.iload 4, 2) := dk_21 4 (dk_at dksX1_averageTargets_1 3 rfl rfl)
theorem dX1_averageTargets_28 : decode cX1_averageTargets 28 = .ok (.iadd, 1) := dk_96 (dk_at dksX1_averageTargets_1 5 rfl rfl)
theorem dX1_averageTargets_29 : decode cX1_averageTargets 29 = .ok (.istore_n 1, 1) := dk_60 (dk_at dksX1_averageTargets_1 6 rfl rfl)
theorem dX1_averageTargets_30 : decode cX1_averageTargets 30 = .ok (.iload_n 2, 1) := dk_28 (dk_at dksX1_averageTargets_1 7 rfl rfl)
theorem dX1_averageTargets_31 : decode cX1_averageTargets 31 = .ok (.iload 4, 2) := dk_21 4 (dk_at dksX1_averageTargets_1 8 rfl rfl)
theorem dX1_averageTargets_33 : decode cX1_averageTargets 33 = .ok (.ifCond .le 7, 3) := dk_158 0 7 (dk_at dksX1_averageTargets_1 10 rfl rfl)
theorem dX1_averageTargets_36 : decode cX1_averageTargets 36 = .ok (.iconst 1, 1) := dk_4 (dk_at dksX1_averageTargets_1 13 rfl rfl)
theorem dX1_averageTargets_37 : decode cX1_averageTargets 37 = .ok (.goto 4, 3) := dk_167 0 4 (dk_at dksX1_averageTargets_1 14 rfl rfl)
theorem dX1_averageTargets_40 : decode cX1_averageTargets 40 = .ok (.iconst 0, 1) := dk_3 (dk_at dksX1_averageTargets_1 17 rfl rfl)
theorem dX1_averageTargets_41 : decode cX1_averageTargets 41 = .ok (.iadd, 1) := dk_96 (dk_at dksX1_averageTargets_1 18 rfl rfl)
theorem dX1_averageTargets_42 : decode cX1_averageTargets 42 = .ok (.istore_n 2, 1) := dk_61 (dk_at dksX1_averageTargets_1 19 rfl rfl)
theorem dX1_averageTargets_43 : decode cX1_averageTargets 43 = .ok (.iinc 3 1, 3) := dk_132 3 1 (dk_at dksX1_averageTargets_1 20 rfl rfl)
theorem dX1_averageTargets_46 : decode cX1_averageTargets 46 = .ok (.goto (-40), 3) := dk_167 255 216 (dk_at dksX1_averageTargets_2 0 rfl rfl)
theorem dX1_averageTargets_49 : decode cX1_averageTargets 49 = .ok (.iload_n 2, 1) := dk_28 (dk_at dksX1_averageTargets_2 3 rfl rfl)
theorem dX1_averageTargets_50 : decode cX1_averageTargets 50 = .ok (.ifCond .ne 11, 3) := dk_154 0 11 (dk_at dksX1_averageTargets_2 4 rfl rfl)
theorem dX1_averageTargets_53 : decode cX1_averageTargets 53 = .ok (.new 313, 3) := dk_187 1 57 (dk_at dksX1_averageTargets_2 7 rfl rfl)
theorem dX1_averageTargets_56 : decode cX1_averageTargets 56 = .ok (.dup, 1) := dk_89 (dk_at dksX1_averageTargets_2 10 rfl rfl)
theorem dX1_averageTargets_57 : decode cX1_averageTargets 57 = .ok (.invokespecial 315, 3) := dk_183 1 59 (dk_at dksX1_averageTargets_2 11 rfl rfl)
theorem dX1_averageTargets_60 : decode cX1_averageTargets 60 = .ok (.athrow, 1) := dk_191 (dk_at dksX1_averageTargets_2 14 rfl rfl)
theorem dX1_averageTargets_61 : decode cX1_averageTargets 61 = .ok (.iload_n 1, 1) := dk_27 (dk_at dksX1_averageTargets_2 15 rfl rfl)
theorem dX1_averageTargets_62 : decode cX1_averageTargets 62 = .ok (.i2f, 1) := dk_134 (dk_at dksX1_averageTargets_2 16 rfl rfl)
theorem dX1_averageTargets_63 : decode cX1_averageTargets 63 = .ok (.iload_n 2, 1) := dk_28 (dk_at dksX1_averageTargets_2 17 rfl rfl)
theorem dX1_averageTargets_64 : decode cX1_averageTargets 64 = .ok (.i2f, 1) := dk_134 (dk_at dksX1_averageTargets_2 18 rfl rfl)
theorem dX1_averageTargets_65 : decode cX1_averageTargets 65 = .ok (.fdiv, 1) := dk_110 (dk_at dksX1_averageTargets_2 19 rfl rfl)
theorem dX1_averageTargets_66 : decode cX1_averageTargets 66 = .ok (.freturn, 1) := dk_174 (dk_at dksX1_averageTargets_2 20 rfl rfl)
abbrev cX1_restore : ByteArray := prog_1_method_58_code
def yX1_restore : MethodName := ⟨RX1, "restore", "()V"⟩
def dkwX1_restore_1 : List UInt8 := [42, 180, 1, 60, 182, 0, 116, 177]
abbrev dktX1_restore_1 : List UInt8 := dkwX1_restore_1 ++ []
def dkwX1_restore_0 : List UInt8 := [42, 180, 1, 60, 198, 0, 7, 4, 167, 0, 4, 3, 184, 0, 65, 42, 42, 180, 1, 63, 181, 0, 142, 42]
abbrev dktX1_restore_0 : List UInt8 := dkwX1_restore_0 ++ dktX1_restore_1
theorem dksX1_restore_0 : cX1_restore.data.toList.drop 0 = dktX1_restore_0 := by decide +kernel
theorem dksX1_restore_1 : cX1_restore.data.toList.drop 24 = dktX1_restore_1 := dk_seg dksX1_restore_0 24 rfl rfl
theorem dX1_restore_0 : decode cX1_restore 0 = .ok (.aload_n 0, 1) := dk_42 (dk_at dksX1_restore_0 0 rfl rfl)
theorem dX1_restore_1 : decode cX1_restore 1 = .ok (.getfield 316, 3) := dk_180 1 60 (dk_at dksX1_restore_0 1 rfl rfl)
theorem dX1_restore_4 : decode cX1_restore 4 = .ok (.ifnull 7, 3) := dk_198 0 7 (dk_at dksX1_restore_0 4 rfl rfl)
theorem dX1_restore_7 : decode cX1_restore 7 = .ok (.iconst 1, 1) := dk_4 (dk_at dksX1_restore_0 7 rfl rfl)
theorem dX1_restore_8 : decode cX1_restore 8 = .ok (.goto 4, 3) := dk_167 0 4 (dk_at dksX1_restore_0 8 rfl rfl)
theorem dX1_restore_11 : decode cX1_restore 11 = .ok (.iconst 0, 1) := dk_3 (dk_at dksX1_restore_0 11 rfl rfl)
theorem dX1_restore_12 : decode cX1_restore 12 = .ok (.invokestatic 65, 3) := dk_184 0 65 (dk_at dksX1_restore_0 12 rfl rfl)
theorem dX1_restore_15 : decode cX1_restore 15 = .ok (.aload_n 0, 1) := dk_42 (dk_at dksX1_restore_0 15 rfl rfl)
theorem dX1_restore_16 : decode cX1_restore 16 = .ok (.aload_n 0, 1) := dk_42 (dk_at dksX1_restore_0 16 rfl rfl)
theorem dX1_restore_17 : decode cX1_restore 17 = .ok (.getfield 319, 3) := dk_180 1 63 (dk_at dksX1_restore_0 17 rfl rfl)
theorem dX1_restore_20 : decode cX1_restore 20 = .ok (.putfield 142, 3) := dk_181 0 142 (dk_at dksX1_restore_0 20 rfl rfl)
theorem dX1_restore_23 : decode cX1_restore 23 = .ok (.aload_n 0, 1) := dk_42 (dk_at dksX1_restore_0 23 rfl rfl)
theorem dX1_restore_24 : decode cX1_restore 24 = .ok (.aload_n 0, 1) := dk_42 (dk_at dksX1_restore_1 0 rfl rfl)
theorem dX1_restore_25 : decode cX1_restore 25 = .ok (.getfield 316, 3) := dk_180 1 60 (dk_at dksX1_restore_1 1 rfl rfl)
theorem dX1_restore_28 : decode cX1_restore 28 = .ok (.invokevirtual 116, 3) := dk_182 0 116 (dk_at dksX1_restore_1 4 rfl rfl)
theorem dX1_restore_31 : decode cX1_restore 31 = .ok (.return_, 1) := dk_177 (dk_at dksX1_restore_1 7 rfl rfl)
theorem q123 : (Jvm.Cond.initialized "PointerAnalyzer") ∈ lw_all := lw_g (lw_at lw_m1 1 rfl) rfl
theorem q191 : (Jvm.Cond.instantiable "PointerAnalyzer" (9 : Nat)) ∈ lw_all := lw_g (lw_at lw_m1 69 rfl) rfl
theorem q193 : (Jvm.Cond.instanceMethod ({ cls := "PointerAnalyzer", name := "<init>", desc := "()V" } : Jvm.MethodName)) ∈ lw_all := lw_g (lw_at lw_m1 71 rfl) rfl
theorem q194 : (Jvm.Cond.code ({ cls := "PointerAnalyzer", name := "<init>", desc := "()V" } : Jvm.MethodName) prog_1_method_11_code (1 : Nat) (Option.none : Option Jvm.ClassFile.FieldType)) ∈ lw_all := lw_g (lw_at lw_m1 72 rfl) rfl
theorem q195 : (Jvm.Cond.methodLink "PointerAnalyzer" (35 : Nat) ({ cls := "java/lang/Object", name := "<init>", desc := "()V" } : Jvm.MethodName)) ∈ lw_all := lw_g (lw_at lw_m1 73 rfl) rfl
theorem q198 : (Jvm.Cond.classLink "PointerAnalyzer" (38 : Nat) "PointerAnalyzer$Program") ∈ lw_all := lw_g (lw_at lw_m1 76 rfl) rfl
theorem q200 : (Jvm.Cond.methodLink "PointerAnalyzer" (40 : Nat) ({ cls := "PointerAnalyzer$Program", name := "<init>", desc := "()V" } : Jvm.MethodName)) ∈ lw_all := lw_g (lw_at lw_m1 78 rfl) rfl
theorem q338 : (Jvm.Cond.selects "PointerAnalyzer" ({ cls := "java/lang/Object", name := "getClass", desc := "()Ljava/lang/Class;" } : Jvm.MethodName) ({ cls := "java/lang/Object", name := "getClass", desc := "()Ljava/lang/Class;" } : Jvm.MethodName)) ∈ lw_all := lw_g (lw_at lw_m1 216 rfl) rfl
theorem q705 : (Jvm.Cond.fieldLinkNest "PointerAnalyzer" (120 : Nat) "PointerAnalyzer$Program" "statements" "Ljava/util/ArrayList;" "PointerAnalyzer") ∈ lw_tbl := lw_at lw_m3 103 rfl
theorem q709 : (Jvm.Cond.fieldLinkNest "PointerAnalyzer" (139 : Nat) "PointerAnalyzer$Program" "sites" "I" "PointerAnalyzer") ∈ lw_tbl := lw_at lw_m3 107 rfl
theorem q717 : (Jvm.Cond.classLink "PointerAnalyzer" (20 : Nat) "java/util/ArrayList") ∈ lw_all := lw_g (lw_at lw_m3 115 rfl) rfl
theorem q718 : (Jvm.Cond.methodLink "PointerAnalyzer" (41 : Nat) ({ cls := "java/util/ArrayList", name := "<init>", desc := "()V" } : Jvm.MethodName)) ∈ lw_all := lw_g (lw_at lw_m3 116 rfl) rfl
theorem q719 : (Jvm.Cond.methodLink "PointerAnalyzer" (42 : Nat) ({ cls := "PointerAnalyzer$Program", name := "with", desc := "(ILjava/util/ArrayList;)LPointerAnalyzer$Program;" } : Jvm.MethodName)) ∈ lw_all := lw_g (lw_at lw_m3 117 rfl) rfl
theorem q757 : (Jvm.Cond.selects "PointerAnalyzer" ({ cls := "java/lang/Object", name := "equals", desc := "(Ljava/lang/Object;)Z" } : Jvm.MethodName) ({ cls := "java/lang/Object", name := "equals", desc := "(Ljava/lang/Object;)Z" } : Jvm.MethodName)) ∈ lw_all := lw_g (lw_at lw_m3 155 rfl) rfl
theorem q1180 : (Jvm.Cond.fieldLinkNest "PointerAnalyzer" (136 : Nat) "PointerAnalyzer$Statement" "function" "I" "PointerAnalyzer") ∈ lw_tbl := lw_at lw_m5 98 rfl
theorem q1188 : (Jvm.Cond.fieldLinkNest "PointerAnalyzer" (129 : Nat) "PointerAnalyzer$Statement" "line" "LPointerAnalyzer$Line;" "PointerAnalyzer") ∈ lw_tbl := lw_at lw_m5 106 rfl
theorem q1245 : (Jvm.Cond.fieldLink "PointerAnalyzer" (46 : Nat) "PointerAnalyzer" "program" "LPointerAnalyzer$Program;") ∈ lw_all := lw_g (lw_at lw_m5 163 rfl) rfl
theorem q1246 : (Jvm.Cond.fieldLink "PointerAnalyzer" (142 : Nat) "PointerAnalyzer" "limit" "I") ∈ lw_all := lw_g (lw_at lw_m5 164 rfl) rfl
theorem q1247 : (Jvm.Cond.fieldLink "PointerAnalyzer" (85 : Nat) "PointerAnalyzer" "analysis" "LPointerAnalyzer$Analysis;") ∈ lw_all := lw_g (lw_at lw_m5 165 rfl) rfl
theorem q1248 : (Jvm.Cond.fieldLink "PointerAnalyzer" (89 : Nat) "PointerAnalyzer" "latest" "LPointerAnalyzer$Run;") ∈ lw_all := lw_g (lw_at lw_m5 166 rfl) rfl
theorem q1250 : (Jvm.Cond.fieldLink "PointerAnalyzer" (50 : Nat) "PointerAnalyzer" "text" "[C") ∈ lw_all := lw_g (lw_at lw_m5 168 rfl) rfl
theorem q1252 : (Jvm.Cond.fieldLink "PointerAnalyzer" (62 : Nat) "PointerAnalyzer" "textLength" "I") ∈ lw_all := lw_g (lw_at lw_m5 170 rfl) rfl
theorem q1253 : (Jvm.Cond.fieldLink "PointerAnalyzer" (54 : Nat) "PointerAnalyzer" "fault" "I") ∈ lw_all := lw_g (lw_at lw_m5 171 rfl) rfl
theorem q1254 : (Jvm.Cond.fieldLink "PointerAnalyzer" (316 : Nat) "PointerAnalyzer" "savedProgram" "LPointerAnalyzer$Program;") ∈ lw_all := lw_g (lw_at lw_m5 172 rfl) rfl
theorem q1255 : (Jvm.Cond.fieldLink "PointerAnalyzer" (319 : Nat) "PointerAnalyzer" "savedLimit" "I") ∈ lw_all := lw_g (lw_at lw_m5 173 rfl) rfl
theorem q1256 : (Jvm.Cond.lays "PointerAnalyzer" "PointerAnalyzer" "program" "LPointerAnalyzer$Program;") ∈ lw_all := lw_g (lw_at lw_m5 174 rfl) rfl
theorem q1257 : (Jvm.Cond.soleField "PointerAnalyzer" "program") ∈ lw_all := lw_g (lw_at lw_m5 175 rfl) rfl
theorem q1258 : (Jvm.Cond.lays "PointerAnalyzer" "PointerAnalyzer" "limit" "I") ∈ lw_all := lw_g (lw_at lw_m5 176 rfl) rfl
theorem q1259 : (Jvm.Cond.soleField "PointerAnalyzer" "limit") ∈ lw_all := lw_g (lw_at lw_m5 177 rfl) rfl
theorem q1260 : (Jvm.Cond.lays "PointerAnalyzer" "PointerAnalyzer" "analysis" "LPointerAnalyzer$Analysis;") ∈ lw_all := lw_g (lw_at lw_m5 178 rfl) rfl
theorem q1261 : (Jvm.Cond.soleField "PointerAnalyzer" "analysis") ∈ lw_all := lw_g (lw_at lw_m5 179 rfl) rfl
theorem q1262 : (Jvm.Cond.lays "PointerAnalyzer" "PointerAnalyzer" "latest" "LPointerAnalyzer$Run;") ∈ lw_all := lw_g (lw_at lw_m5 180 rfl) rfl
theorem q1263 : (Jvm.Cond.soleField "PointerAnalyzer" "latest") ∈ lw_all := lw_g (lw_at lw_m5 181 rfl) rfl
theorem q1264 : (Jvm.Cond.laysFinal "PointerAnalyzer" "PointerAnalyzer" "text" "[C") ∈ lw_all := lw_g (lw_at lw_m5 182 rfl) rfl
theorem q1265 : (Jvm.Cond.soleField "PointerAnalyzer" "text") ∈ lw_all := lw_g (lw_at lw_m5 183 rfl) rfl
theorem q1266 : (Jvm.Cond.lays "PointerAnalyzer" "PointerAnalyzer" "textLength" "I") ∈ lw_all := lw_g (lw_at lw_m5 184 rfl) rfl
theorem q1267 : (Jvm.Cond.soleField "PointerAnalyzer" "textLength") ∈ lw_all := lw_g (lw_at lw_m5 185 rfl) rfl
theorem q1268 : (Jvm.Cond.lays "PointerAnalyzer" "PointerAnalyzer" "fault" "I") ∈ lw_all := lw_g (lw_at lw_m5 186 rfl) rfl
theorem q1269 : (Jvm.Cond.soleField "PointerAnalyzer" "fault") ∈ lw_all := lw_g (lw_at lw_m5 187 rfl) rfl
theorem q1270 : (Jvm.Cond.lays "PointerAnalyzer" "PointerAnalyzer" "savedProgram" "LPointerAnalyzer$Program;") ∈ lw_all := lw_g (lw_at lw_m5 188 rfl) rfl
theorem q1271 : (Jvm.Cond.soleField "PointerAnalyzer" "savedProgram") ∈ lw_all := lw_g (lw_at lw_m5 189 rfl) rfl
theorem q1272 : (Jvm.Cond.lays "PointerAnalyzer" "PointerAnalyzer" "savedLimit" "I") ∈ lw_all := lw_g (lw_at lw_m5 190 rfl) rfl
theorem q1273 : (Jvm.Cond.soleField "PointerAnalyzer" "savedLimit") ∈ lw_all := lw_g (lw_at lw_m5 191 rfl) rfl
theorem q1274 : (Jvm.Cond.superclass "PointerAnalyzer" "java/lang/Object") ∈ lw_all := lw_g (lw_at lw_m5 192 rfl) rfl
theorem q1277 : (Jvm.Cond.instanceMethod ({ cls := "PointerAnalyzer", name := "faultPosition", desc := "()I" } : Jvm.MethodName)) ∈ lw_all := lw_g (lw_at lw_m5 195 rfl) rfl
theorem q1278 : (Jvm.Cond.selects "PointerAnalyzer" ({ cls := "PointerAnalyzer", name := "faultPosition", desc := "()I" } : Jvm.MethodName) ({ cls := "PointerAnalyzer", name := "faultPosition", desc := "()I" } : Jvm.MethodName)) ∈ lw_all := lw_g (lw_at lw_m5 196 rfl) rfl
theorem q1279 : (Jvm.Cond.code ({ cls := "PointerAnalyzer", name := "faultPosition", desc := "()I" } : Jvm.MethodName) prog_1_method_16_code (1 : Nat) (Option.some Jvm.ClassFile.FieldType.int)) ∈ lw_all := lw_g (lw_at lw_m5 197 rfl) rfl
theorem q1281 : (Jvm.Cond.instanceMethod ({ cls := "PointerAnalyzer", name := "statementCount", desc := "()I" } : Jvm.MethodName)) ∈ lw_all := lw_g (lw_at lw_m5 199 rfl) rfl
theorem q1282 : (Jvm.Cond.selects "PointerAnalyzer" ({ cls := "PointerAnalyzer", name := "statementCount", desc := "()I" } : Jvm.MethodName) ({ cls := "PointerAnalyzer", name := "statementCount", desc := "()I" } : Jvm.MethodName)) ∈ lw_all := lw_g (lw_at lw_m5 200 rfl) rfl
theorem q1283 : (Jvm.Cond.code ({ cls := "PointerAnalyzer", name := "statementCount", desc := "()I" } : Jvm.MethodName) prog_1_method_17_code (1 : Nat) (Option.some Jvm.ClassFile.FieldType.int)) ∈ lw_all := lw_g (lw_at lw_m5 201 rfl) rfl
theorem q1284 : (Jvm.Cond.methodLink "PointerAnalyzer" (19 : Nat) ({ cls := "java/util/ArrayList", name := "size", desc := "()I" } : Jvm.MethodName)) ∈ lw_all := lw_g (lw_at lw_m5 202 rfl) rfl
theorem q1286 : (Jvm.Cond.instanceMethod ({ cls := "PointerAnalyzer", name := "siteCount", desc := "()I" } : Jvm.MethodName)) ∈ lw_all := lw_g (lw_at lw_m5 204 rfl) rfl
theorem q1287 : (Jvm.Cond.selects "PointerAnalyzer" ({ cls := "PointerAnalyzer", name := "siteCount", desc := "()I" } : Jvm.MethodName) ({ cls := "PointerAnalyzer", name := "siteCount", desc := "()I" } : Jvm.MethodName)) ∈ lw_all := lw_g (lw_at lw_m5 205 rfl) rfl
theorem q1288 : (Jvm.Cond.code ({ cls := "PointerAnalyzer", name := "siteCount", desc := "()I" } : Jvm.MethodName) prog_1_method_21_code (1 : Nat) (Option.some Jvm.ClassFile.FieldType.int)) ∈ lw_all := lw_g (lw_at lw_m5 206 rfl) rfl
theorem q1290 : (Jvm.Cond.instanceMethod ({ cls := "PointerAnalyzer", name := "factCount", desc := "()I" } : Jvm.MethodName)) ∈ lw_all := lw_g (lw_at lw_m5 208 rfl) rfl
theorem q1291 : (Jvm.Cond.selects "PointerAnalyzer" ({ cls := "PointerAnalyzer", name := "factCount", desc := "()I" } : Jvm.MethodName) ({ cls := "PointerAnalyzer", name := "factCount", desc := "()I" } : Jvm.MethodName)) ∈ lw_all := lw_g (lw_at lw_m5 209 rfl) rfl
theorem q1292 : (Jvm.Cond.code ({ cls := "PointerAnalyzer", name := "factCount", desc := "()I" } : Jvm.MethodName) prog_1_method_32_code (1 : Nat) (Option.some Jvm.ClassFile.FieldType.int)) ∈ lw_all := lw_g (lw_at lw_m5 210 rfl) rfl
theorem q1293 : (Jvm.Cond.methodLink "PointerAnalyzer" (150 : Nat) ({ cls := "PointerAnalyzer", name := "analyze", desc := "()LPointerAnalyzer$Analysis;" } : Jvm.MethodName)) ∈ lw_all := lw_g (lw_at lw_m5 211 rfl) rfl
theorem q1294 : (Jvm.Cond.privateMethod ({ cls := "PointerAnalyzer", name := "analyze", desc := "()LPointerAnalyzer$Analysis;" } : Jvm.MethodName)) ∈ lw_tbl := lw_at lw_m5 212 rfl
theorem q1295 : (Jvm.Cond.instanceMethod ({ cls := "PointerAnalyzer", name := "analyze", desc := "()LPointerAnalyzer$Analysis;" } : Jvm.MethodName)) ∈ lw_all := lw_g (lw_at lw_m5 213 rfl) rfl
theorem q1296 : (Jvm.Cond.code ({ cls := "PointerAnalyzer", name := "analyze", desc := "()LPointerAnalyzer$Analysis;" } : Jvm.MethodName) prog_1_method_23_code (1 : Nat) (Option.some (Jvm.ClassFile.FieldType.object "PointerAnalyzer$Analysis"))) ∈ lw_all := lw_g (lw_at lw_m5 214 rfl) rfl
theorem q1297 : (Jvm.Cond.classLink "PointerAnalyzer" (145 : Nat) "PointerAnalyzer$Analysis") ∈ lw_all := lw_g (lw_at lw_m5 215 rfl) rfl
theorem q1299 : (Jvm.Cond.methodLink "PointerAnalyzer" (147 : Nat) ({ cls := "PointerAnalyzer$Analysis", name := "<init>", desc := "(LPointerAnalyzer$Program;I)V" } : Jvm.MethodName)) ∈ lw_all := lw_g (lw_at lw_m5 217 rfl) rfl
theorem q1386 : (Jvm.Cond.fieldLinkNest "PointerAnalyzer" (173 : Nat) "PointerAnalyzer$Context" "calls" "[I" "PointerAnalyzer") ∈ lw_tbl := lw_at lw_m6 64 rfl
theorem q1552 : (Jvm.Cond.fieldLinkNest "PointerAnalyzer" (164 : Nat) "PointerAnalyzer$Contexts" "sorted" "Ljava/util/ArrayList;" "PointerAnalyzer") ∈ lw_tbl := lw_at lw_m6 230 rfl
theorem q1641 : (Jvm.Cond.static ({ cls := "PointerAnalyzer", name := "local", desc := "(II)I" } : Jvm.MethodName)) ∈ lw_all := lw_g (lw_at lw_m7 79 rfl) rfl
theorem q1642 : (Jvm.Cond.code ({ cls := "PointerAnalyzer", name := "local", desc := "(II)I" } : Jvm.MethodName) prog_1_method_7_code (2 : Nat) (Option.some Jvm.ClassFile.FieldType.int)) ∈ lw_all := lw_g (lw_at lw_m7 80 rfl) rfl
theorem q1654 : (Jvm.Cond.static ({ cls := "PointerAnalyzer", name := "ownerOf", desc := "(I)I" } : Jvm.MethodName)) ∈ lw_all := lw_g (lw_at lw_m7 92 rfl) rfl
theorem q1655 : (Jvm.Cond.code ({ cls := "PointerAnalyzer", name := "ownerOf", desc := "(I)I" } : Jvm.MethodName) prog_1_method_8_code (1 : Nat) (Option.some Jvm.ClassFile.FieldType.int)) ∈ lw_all := lw_g (lw_at lw_m7 93 rfl) rfl
theorem q2089 : (Jvm.Cond.fieldLinkNest "PointerAnalyzer" (154 : Nat) "PointerAnalyzer$Analysis" "contexts" "LPointerAnalyzer$Contexts;" "PointerAnalyzer") ∈ lw_tbl := lw_at lw_m9 47 rfl
theorem q2107 : (Jvm.Cond.methodLink "PointerAnalyzer" (202 : Nat) ({ cls := "PointerAnalyzer$Analysis", name := "countFacts", desc := "()I" } : Jvm.MethodName)) ∈ lw_all := lw_g (lw_at lw_m9 65 rfl) rfl
theorem q2113 : (Jvm.Cond.instanceMethod ({ cls := "PointerAnalyzer", name := "escapingSites", desc := "()I" } : Jvm.MethodName)) ∈ lw_all := lw_g (lw_at lw_m9 71 rfl) rfl
theorem q2114 : (Jvm.Cond.selects "PointerAnalyzer" ({ cls := "PointerAnalyzer", name := "escapingSites", desc := "()I" } : Jvm.MethodName) ({ cls := "PointerAnalyzer", name := "escapingSites", desc := "()I" } : Jvm.MethodName)) ∈ lw_all := lw_g (lw_at lw_m9 72 rfl) rfl
theorem q2115 : (Jvm.Cond.code ({ cls := "PointerAnalyzer", name := "escapingSites", desc := "()I" } : Jvm.MethodName) prog_1_method_36_code (5 : Nat) (Option.some Jvm.ClassFile.FieldType.int)) ∈ lw_all := lw_g (lw_at lw_m9 73 rfl) rfl
theorem q2116 : (Jvm.Cond.methodLink "PointerAnalyzer" (213 : Nat) ({ cls := "PointerAnalyzer", name := "reachFrom", desc := "(I)J" } : Jvm.MethodName)) ∈ lw_all := lw_g (lw_at lw_m9 74 rfl) rfl
theorem q2117 : (Jvm.Cond.privateMethod ({ cls := "PointerAnalyzer", name := "reachFrom", desc := "(I)J" } : Jvm.MethodName)) ∈ lw_tbl := lw_at lw_m9 75 rfl
theorem q2118 : (Jvm.Cond.instanceMethod ({ cls := "PointerAnalyzer", name := "reachFrom", desc := "(I)J" } : Jvm.MethodName)) ∈ lw_all := lw_g (lw_at lw_m9 76 rfl) rfl
theorem q2119 : (Jvm.Cond.code ({ cls := "PointerAnalyzer", name := "reachFrom", desc := "(I)J" } : Jvm.MethodName) prog_1_method_34_code (7 : Nat) (Option.some Jvm.ClassFile.FieldType.long)) ∈ lw_all := lw_g (lw_at lw_m9 77 rfl) rfl
theorem q2120 : (Jvm.Cond.methodLink "PointerAnalyzer" (180 : Nat) ({ cls := "PointerAnalyzer$Analysis", name := "pointsTo", desc := "(I)J" } : Jvm.MethodName)) ∈ lw_all := lw_g (lw_at lw_m9 78 rfl) rfl
theorem q2128 : (Jvm.Cond.constantLong "PointerAnalyzer" (205 : Nat) (-1 : Int64)) ∈ lw_all := lw_g (lw_at lw_m9 86 rfl) rfl
theorem q2129 : (Jvm.Cond.methodLink "PointerAnalyzer" (207 : Nat) ({ cls := "java/lang/Long", name := "numberOfTrailingZeros", desc := "(J)I" } : Jvm.MethodName)) ∈ lw_all := lw_g (lw_at lw_m9 87 rfl) rfl
theorem q2130 : (Jvm.Cond.methodLink "PointerAnalyzer" (195 : Nat) ({ cls := "PointerAnalyzer", name := "fieldCode", desc := "(II)I" } : Jvm.MethodName)) ∈ lw_all := lw_g (lw_at lw_m9 88 rfl) rfl
theorem q2131 : (Jvm.Cond.static ({ cls := "PointerAnalyzer", name := "fieldCode", desc := "(II)I" } : Jvm.MethodName)) ∈ lw_all := lw_g (lw_at lw_m9 89 rfl) rfl
theorem q2132 : (Jvm.Cond.code ({ cls := "PointerAnalyzer", name := "fieldCode", desc := "(II)I" } : Jvm.MethodName) prog_1_method_9_code (2 : Nat) (Option.some Jvm.ClassFile.FieldType.int)) ∈ lw_all := lw_g (lw_at lw_m9 90 rfl) rfl
theorem q2133 : (Jvm.Cond.constantLong "PointerAnalyzer" (216 : Nat) (7 : Int64)) ∈ lw_all := lw_g (lw_at lw_m9 91 rfl) rfl
theorem q2135 : (Jvm.Cond.instanceMethod ({ cls := "PointerAnalyzer", name := "roundCount", desc := "()I" } : Jvm.MethodName)) ∈ lw_all := lw_g (lw_at lw_m9 93 rfl) rfl
theorem q2136 : (Jvm.Cond.selects "PointerAnalyzer" ({ cls := "PointerAnalyzer", name := "roundCount", desc := "()I" } : Jvm.MethodName) ({ cls := "PointerAnalyzer", name := "roundCount", desc := "()I" } : Jvm.MethodName)) ∈ lw_all := lw_g (lw_at lw_m9 94 rfl) rfl
theorem q2137 : (Jvm.Cond.code ({ cls := "PointerAnalyzer", name := "roundCount", desc := "()I" } : Jvm.MethodName) prog_1_method_41_code (1 : Nat) (Option.some Jvm.ClassFile.FieldType.int)) ∈ lw_all := lw_g (lw_at lw_m9 95 rfl) rfl
theorem q2138 : (Jvm.Cond.methodLink "PointerAnalyzer" (227 : Nat) ({ cls := "PointerAnalyzer", name := "findRanks", desc := "()LPointerAnalyzer$Ranks;" } : Jvm.MethodName)) ∈ lw_all := lw_g (lw_at lw_m9 96 rfl) rfl
theorem q2139 : (Jvm.Cond.privateMethod ({ cls := "PointerAnalyzer", name := "findRanks", desc := "()LPointerAnalyzer$Ranks;" } : Jvm.MethodName)) ∈ lw_tbl := lw_at lw_m9 97 rfl
theorem q2140 : (Jvm.Cond.instanceMethod ({ cls := "PointerAnalyzer", name := "findRanks", desc := "()LPointerAnalyzer$Ranks;" } : Jvm.MethodName)) ∈ lw_all := lw_g (lw_at lw_m9 98 rfl) rfl
theorem q2141 : (Jvm.Cond.code ({ cls := "PointerAnalyzer", name := "findRanks", desc := "()LPointerAnalyzer$Ranks;" } : Jvm.MethodName) prog_1_method_37_code (2 : Nat) (Option.some (Jvm.ClassFile.FieldType.object "PointerAnalyzer$Ranks"))) ∈ lw_all := lw_g (lw_at lw_m9 99 rfl) rfl
theorem q2142 : (Jvm.Cond.methodLink "PointerAnalyzer" (218 : Nat) ({ cls := "PointerAnalyzer$Program", name := "callees", desc := "(I)[Z" } : Jvm.MethodName)) ∈ lw_all := lw_g (lw_at lw_m9 100 rfl) rfl
theorem q2148 : (Jvm.Cond.classLink "PointerAnalyzer" (222 : Nat) "PointerAnalyzer$Ranks") ∈ lw_all := lw_g (lw_at lw_m9 106 rfl) rfl
theorem q2150 : (Jvm.Cond.methodLink "PointerAnalyzer" (224 : Nat) ({ cls := "PointerAnalyzer$Ranks", name := "<init>", desc := "(LPointerAnalyzer$Program;[Z)V" } : Jvm.MethodName)) ∈ lw_all := lw_g (lw_at lw_m9 108 rfl) rfl
theorem q2180 : (Jvm.Cond.fieldLinkNest "PointerAnalyzer" (231 : Nat) "PointerAnalyzer$Ranks" "ranks" "[[I" "PointerAnalyzer") ∈ lw_tbl := lw_at lw_m9 138 rfl
theorem q2182 : (Jvm.Cond.fieldLinkNest "PointerAnalyzer" (242 : Nat) "PointerAnalyzer$Ranks" "reasons" "[[I" "PointerAnalyzer") ∈ lw_tbl := lw_at lw_m9 140 rfl
theorem q2184 : (Jvm.Cond.fieldLinkNest "PointerAnalyzer" (245 : Nat) "PointerAnalyzer$Ranks" "round" "I" "PointerAnalyzer") ∈ lw_tbl := lw_at lw_m9 142 rfl
theorem q2201 : (Jvm.Cond.instanceMethod ({ cls := "PointerAnalyzer", name := "unifiedClasses", desc := "()I" } : Jvm.MethodName)) ∈ lw_all := lw_g (lw_at lw_m9 159 rfl) rfl
theorem q2202 : (Jvm.Cond.selects "PointerAnalyzer" ({ cls := "PointerAnalyzer", name := "unifiedClasses", desc := "()I" } : Jvm.MethodName) ({ cls := "PointerAnalyzer", name := "unifiedClasses", desc := "()I" } : Jvm.MethodName)) ∈ lw_all := lw_g (lw_at lw_m9 160 rfl) rfl
theorem q2203 : (Jvm.Cond.code ({ cls := "PointerAnalyzer", name := "unifiedClasses", desc := "()I" } : Jvm.MethodName) prog_1_method_44_code (1 : Nat) (Option.some Jvm.ClassFile.FieldType.int)) ∈ lw_all := lw_g (lw_at lw_m9 161 rfl) rfl
theorem q2204 : (Jvm.Cond.classLink "PointerAnalyzer" (248 : Nat) "PointerAnalyzer$Unification") ∈ lw_all := lw_g (lw_at lw_m9 162 rfl) rfl
theorem q2206 : (Jvm.Cond.methodLink "PointerAnalyzer" (250 : Nat) ({ cls := "PointerAnalyzer$Unification", name := "<init>", desc := "(LPointerAnalyzer$Program;)V" } : Jvm.MethodName)) ∈ lw_all := lw_g (lw_at lw_m9 164 rfl) rfl
theorem q2251 : (Jvm.Cond.fieldLinkNest "PointerAnalyzer" (255 : Nat) "PointerAnalyzer$Unification" "terms" "[LPointerAnalyzer$Term;" "PointerAnalyzer") ∈ lw_tbl := lw_at lw_m9 209 rfl
theorem q2255 : (Jvm.Cond.methodLink "PointerAnalyzer" (265 : Nat) ({ cls := "PointerAnalyzer$Unification", name := "countClasses", desc := "()I" } : Jvm.MethodName)) ∈ lw_all := lw_g (lw_at lw_m9 213 rfl) rfl
theorem q2260 : (Jvm.Cond.instanceMethod ({ cls := "PointerAnalyzer", name := "run", desc := "()I" } : Jvm.MethodName)) ∈ lw_all := lw_g (lw_at lw_m9 218 rfl) rfl
theorem q2261 : (Jvm.Cond.selects "PointerAnalyzer" ({ cls := "PointerAnalyzer", name := "run", desc := "()I" } : Jvm.MethodName) ({ cls := "PointerAnalyzer", name := "run", desc := "()I" } : Jvm.MethodName)) ∈ lw_all := lw_g (lw_at lw_m9 219 rfl) rfl
theorem q2262 : (Jvm.Cond.code ({ cls := "PointerAnalyzer", name := "run", desc := "()I" } : Jvm.MethodName) prog_1_method_50_code (1 : Nat) (Option.some Jvm.ClassFile.FieldType.int)) ∈ lw_all := lw_g (lw_at lw_m9 220 rfl) rfl
theorem q2263 : (Jvm.Cond.classLink "PointerAnalyzer" (294 : Nat) "PointerAnalyzer$Run") ∈ lw_all := lw_g (lw_at lw_m9 221 rfl) rfl
theorem q2265 : (Jvm.Cond.methodLink "PointerAnalyzer" (296 : Nat) ({ cls := "PointerAnalyzer$Run", name := "<init>", desc := "(LPointerAnalyzer$Program;)V" } : Jvm.MethodName)) ∈ lw_all := lw_g (lw_at lw_m9 223 rfl) rfl
theorem q2355 : (Jvm.Cond.fieldLinkNest "PointerAnalyzer" (300 : Nat) "PointerAnalyzer$Run" "observed" "[J" "PointerAnalyzer") ∈ lw_tbl := lw_at lw_m10 73 rfl
theorem q2357 : (Jvm.Cond.fieldLinkNest "PointerAnalyzer" (297 : Nat) "PointerAnalyzer$Run" "executed" "I" "PointerAnalyzer") ∈ lw_tbl := lw_at lw_m10 75 rfl
theorem q2359 : (Jvm.Cond.fieldLinkNest "PointerAnalyzer" (304 : Nat) "PointerAnalyzer$Run" "faults" "I" "PointerAnalyzer") ∈ lw_tbl := lw_at lw_m10 77 rfl
theorem q2361 : (Jvm.Cond.fieldLinkNest "PointerAnalyzer" (307 : Nat) "PointerAnalyzer$Run" "objects" "I" "PointerAnalyzer") ∈ lw_tbl := lw_at lw_m10 79 rfl
theorem q2379 : (Jvm.Cond.instanceMethod ({ cls := "PointerAnalyzer", name := "faults", desc := "()I" } : Jvm.MethodName)) ∈ lw_all := lw_g (lw_at lw_m10 97 rfl) rfl
theorem q2380 : (Jvm.Cond.selects "PointerAnalyzer" ({ cls := "PointerAnalyzer", name := "faults", desc := "()I" } : Jvm.MethodName) ({ cls := "PointerAnalyzer", name := "faults", desc := "()I" } : Jvm.MethodName)) ∈ lw_all := lw_g (lw_at lw_m10 98 rfl) rfl
theorem q2381 : (Jvm.Cond.code ({ cls := "PointerAnalyzer", name := "faults", desc := "()I" } : Jvm.MethodName) prog_1_method_53_code (1 : Nat) (Option.some Jvm.ClassFile.FieldType.int)) ∈ lw_all := lw_g (lw_at lw_m10 99 rfl) rfl
theorem q2383 : (Jvm.Cond.instanceMethod ({ cls := "PointerAnalyzer", name := "objects", desc := "()I" } : Jvm.MethodName)) ∈ lw_all := lw_g (lw_at lw_m10 101 rfl) rfl
theorem q2384 : (Jvm.Cond.selects "PointerAnalyzer" ({ cls := "PointerAnalyzer", name := "objects", desc := "()I" } : Jvm.MethodName) ({ cls := "PointerAnalyzer", name := "objects", desc := "()I" } : Jvm.MethodName)) ∈ lw_all := lw_g (lw_at lw_m10 102 rfl) rfl
theorem q2385 : (Jvm.Cond.code ({ cls := "PointerAnalyzer", name := "objects", desc := "()I" } : Jvm.MethodName) prog_1_method_54_code (1 : Nat) (Option.some Jvm.ClassFile.FieldType.int)) ∈ lw_all := lw_g (lw_at lw_m10 103 rfl) rfl
theorem q2387 : (Jvm.Cond.instanceMethod ({ cls := "PointerAnalyzer", name := "save", desc := "()V" } : Jvm.MethodName)) ∈ lw_all := lw_g (lw_at lw_m10 105 rfl) rfl
theorem q2388 : (Jvm.Cond.selects "PointerAnalyzer" ({ cls := "PointerAnalyzer", name := "save", desc := "()V" } : Jvm.MethodName) ({ cls := "PointerAnalyzer", name := "save", desc := "()V" } : Jvm.MethodName)) ∈ lw_all := lw_g (lw_at lw_m10 106 rfl) rfl
theorem q2389 : (Jvm.Cond.code ({ cls := "PointerAnalyzer", name := "save", desc := "()V" } : Jvm.MethodName) prog_1_method_57_code (1 : Nat) (Option.none : Option Jvm.ClassFile.FieldType)) ∈ lw_all := lw_g (lw_at lw_m10 107 rfl) rfl
theorem q2396 : (Jvm.Cond.instanceMethod ({ cls := "PointerAnalyzer", name := "appendCharacter", desc := "(I)I" } : Jvm.MethodName)) ∈ lw_all := lw_g (lw_at lw_m10 114 rfl) rfl
theorem q2397 : (Jvm.Cond.selects "PointerAnalyzer" ({ cls := "PointerAnalyzer", name := "appendCharacter", desc := "(I)I" } : Jvm.MethodName) ({ cls := "PointerAnalyzer", name := "appendCharacter", desc := "(I)I" } : Jvm.MethodName)) ∈ lw_all := lw_g (lw_at lw_m10 115 rfl) rfl
theorem q2398 : (Jvm.Cond.code ({ cls := "PointerAnalyzer", name := "appendCharacter", desc := "(I)I" } : Jvm.MethodName) prog_1_method_12_code (2 : Nat) (Option.some Jvm.ClassFile.FieldType.int)) ∈ lw_all := lw_g (lw_at lw_m10 116 rfl) rfl
theorem q2399 : (Jvm.Cond.methodLink "PointerAnalyzer" (15 : Nat) ({ cls := "PointerAnalyzer", name := "isBetween", desc := "(III)Z" } : Jvm.MethodName)) ∈ lw_all := lw_g (lw_at lw_m10 117 rfl) rfl
theorem q2400 : (Jvm.Cond.static ({ cls := "PointerAnalyzer", name := "isBetween", desc := "(III)Z" } : Jvm.MethodName)) ∈ lw_all := lw_g (lw_at lw_m10 118 rfl) rfl
theorem q2401 : (Jvm.Cond.code ({ cls := "PointerAnalyzer", name := "isBetween", desc := "(III)Z" } : Jvm.MethodName) prog_1_method_1_code (3 : Nat) (Option.some Jvm.ClassFile.FieldType.boolean)) ∈ lw_all := lw_g (lw_at lw_m10 119 rfl) rfl
theorem q2402 : (Jvm.Cond.methodLink "PointerAnalyzer" (58 : Nat) ({ cls := "PointerAnalyzer", name := "requireArgument", desc := "(Z)V" } : Jvm.MethodName)) ∈ lw_all := lw_g (lw_at lw_m10 120 rfl) rfl
theorem q2403 : (Jvm.Cond.static ({ cls := "PointerAnalyzer", name := "requireArgument", desc := "(Z)V" } : Jvm.MethodName)) ∈ lw_all := lw_g (lw_at lw_m10 121 rfl) rfl
theorem q2404 : (Jvm.Cond.code ({ cls := "PointerAnalyzer", name := "requireArgument", desc := "(Z)V" } : Jvm.MethodName) prog_1_method_2_code (1 : Nat) (Option.none : Option Jvm.ClassFile.FieldType)) ∈ lw_all := lw_g (lw_at lw_m10 122 rfl) rfl
theorem q2405 : (Jvm.Cond.classLink "PointerAnalyzer" (3 : Nat) "java/lang/IllegalArgumentException") ∈ lw_all := lw_g (lw_at lw_m10 123 rfl) rfl
theorem q2406 : (Jvm.Cond.methodLink "PointerAnalyzer" (5 : Nat) ({ cls := "java/lang/IllegalArgumentException", name := "<init>", desc := "()V" } : Jvm.MethodName)) ∈ lw_all := lw_g (lw_at lw_m10 124 rfl) rfl
theorem q2407 : (Jvm.Cond.methodLink "PointerAnalyzer" (65 : Nat) ({ cls := "PointerAnalyzer", name := "requireState", desc := "(Z)V" } : Jvm.MethodName)) ∈ lw_all := lw_g (lw_at lw_m10 125 rfl) rfl
theorem q2408 : (Jvm.Cond.static ({ cls := "PointerAnalyzer", name := "requireState", desc := "(Z)V" } : Jvm.MethodName)) ∈ lw_all := lw_g (lw_at lw_m10 126 rfl) rfl
theorem q2409 : (Jvm.Cond.code ({ cls := "PointerAnalyzer", name := "requireState", desc := "(Z)V" } : Jvm.MethodName) prog_1_method_3_code (1 : Nat) (Option.none : Option Jvm.ClassFile.FieldType)) ∈ lw_all := lw_g (lw_at lw_m10 127 rfl) rfl
theorem q2410 : (Jvm.Cond.classLink "PointerAnalyzer" (9 : Nat) "java/lang/IllegalStateException") ∈ lw_all := lw_g (lw_at lw_m10 128 rfl) rfl
theorem q2419 : (Jvm.Cond.methodLink "PointerAnalyzer" (11 : Nat) ({ cls := "java/lang/IllegalStateException", name := "<init>", desc := "()V" } : Jvm.MethodName)) ∈ lw_all := lw_g (lw_at lw_m10 137 rfl) rfl
theorem q2445 : (Jvm.Cond.instanceMethod ({ cls := "PointerAnalyzer", name := "setBody", desc := "(I)I" } : Jvm.MethodName)) ∈ lw_all := lw_g (lw_at lw_m10 163 rfl) rfl
theorem q2446 : (Jvm.Cond.selects "PointerAnalyzer" ({ cls := "PointerAnalyzer", name := "setBody", desc := "(I)I" } : Jvm.MethodName) ({ cls := "PointerAnalyzer", name := "setBody", desc := "(I)I" } : Jvm.MethodName)) ∈ lw_all := lw_g (lw_at lw_m10 164 rfl) rfl
theorem q2447 : (Jvm.Cond.code ({ cls := "PointerAnalyzer", name := "setBody", desc := "(I)I" } : Jvm.MethodName) prog_1_method_15_code (4 : Nat) (Option.some Jvm.ClassFile.FieldType.int)) ∈ lw_all := lw_g (lw_at lw_m10 165 rfl) rfl
theorem q2448 : (Jvm.Cond.methodLink "PointerAnalyzer" (93 : Nat) ({ cls := "PointerAnalyzer", name := "isFunction", desc := "(I)Z" } : Jvm.MethodName)) ∈ lw_all := lw_g (lw_at lw_m10 166 rfl) rfl
theorem q2449 : (Jvm.Cond.static ({ cls := "PointerAnalyzer", name := "isFunction", desc := "(I)Z" } : Jvm.MethodName)) ∈ lw_all := lw_g (lw_at lw_m10 167 rfl) rfl
theorem q2450 : (Jvm.Cond.code ({ cls := "PointerAnalyzer", name := "isFunction", desc := "(I)Z" } : Jvm.MethodName) prog_1_method_5_code (1 : Nat) (Option.some Jvm.ClassFile.FieldType.boolean)) ∈ lw_all := lw_g (lw_at lw_m10 168 rfl) rfl
theorem q2451 : (Jvm.Cond.methodLink "PointerAnalyzer" (97 : Nat) ({ cls := "PointerAnalyzer", name := "requireIndex", desc := "(Z)V" } : Jvm.MethodName)) ∈ lw_all := lw_g (lw_at lw_m10 169 rfl) rfl
theorem q2452 : (Jvm.Cond.static ({ cls := "PointerAnalyzer", name := "requireIndex", desc := "(Z)V" } : Jvm.MethodName)) ∈ lw_all := lw_g (lw_at lw_m10 170 rfl) rfl
theorem q2453 : (Jvm.Cond.code ({ cls := "PointerAnalyzer", name := "requireIndex", desc := "(Z)V" } : Jvm.MethodName) prog_1_method_4_code (1 : Nat) (Option.none : Option Jvm.ClassFile.FieldType)) ∈ lw_all := lw_g (lw_at lw_m10 171 rfl) rfl
theorem q2454 : (Jvm.Cond.classLink "PointerAnalyzer" (12 : Nat) "java/lang/IndexOutOfBoundsException") ∈ lw_all := lw_g (lw_at lw_m10 172 rfl) rfl
theorem q2455 : (Jvm.Cond.methodLink "PointerAnalyzer" (14 : Nat) ({ cls := "java/lang/IndexOutOfBoundsException", name := "<init>", desc := "()V" } : Jvm.MethodName)) ∈ lw_all := lw_g (lw_at lw_m10 173 rfl) rfl
theorem q2459 : (Jvm.Cond.methodLink "PointerAnalyzer" (100 : Nat) ({ cls := "PointerAnalyzer", name := "readBody", desc := "(I)Ljava/util/ArrayList;" } : Jvm.MethodName)) ∈ lw_all := lw_g (lw_at lw_m10 177 rfl) rfl
theorem q2460 : (Jvm.Cond.privateMethod ({ cls := "PointerAnalyzer", name := "readBody", desc := "(I)Ljava/util/ArrayList;" } : Jvm.MethodName)) ∈ lw_tbl := lw_at lw_m10 178 rfl
theorem q2461 : (Jvm.Cond.instanceMethod ({ cls := "PointerAnalyzer", name := "readBody", desc := "(I)Ljava/util/ArrayList;" } : Jvm.MethodName)) ∈ lw_all := lw_g (lw_at lw_m10 179 rfl) rfl
theorem q2462 : (Jvm.Cond.codeWith ({ cls := "PointerAnalyzer", name := "readBody", desc := "(I)Ljava/util/ArrayList;" } : Jvm.MethodName) prog_1_method_13_code (5 : Nat) (Option.some (Jvm.ClassFile.FieldType.object "java/util/ArrayList")) [((10 : Nat), (19 : Nat), (27 : Nat), (76 : Nat)), ((10 : Nat), (19 : Nat), (44 : Nat), (0 : Nat)), ((27 : Nat), (36 : Nat), (44 : Nat), (0 : Nat)), ((44 : Nat), (46 : Nat), (44 : Nat), (0 : Nat))]) ∈ lw_all := lw_g (lw_at lw_m10 180 rfl) rfl
theorem q2463 : (Jvm.Cond.classLink "PointerAnalyzer" (76 : Nat) "PointerAnalyzer$FaultException") ∈ lw_all := lw_g (lw_at lw_m10 181 rfl) rfl
theorem q2464 : (Jvm.Cond.classLink "PointerAnalyzer" (68 : Nat) "PointerAnalyzer$Reader") ∈ lw_all := lw_g (lw_at lw_m10 182 rfl) rfl
theorem q2466 : (Jvm.Cond.methodLink "PointerAnalyzer" (70 : Nat) ({ cls := "PointerAnalyzer$Reader", name := "<init>", desc := "(LPointerAnalyzer;I)V" } : Jvm.MethodName)) ∈ lw_all := lw_g (lw_at lw_m10 184 rfl) rfl
theorem q2474 : (Jvm.Cond.fieldLinkNest "PointerAnalyzer" (81 : Nat) "PointerAnalyzer$Reader" "lines" "Ljava/util/ArrayList;" "PointerAnalyzer") ∈ lw_tbl := lw_at lw_m10 192 rfl
theorem q2486 : (Jvm.Cond.methodLink "PointerAnalyzer" (73 : Nat) ({ cls := "PointerAnalyzer$Reader", name := "body", desc := "()V" } : Jvm.MethodName)) ∈ lw_all := lw_g (lw_at lw_m10 204 rfl) rfl
theorem q2577 : (Jvm.Cond.fieldLinkNest "PointerAnalyzer" (78 : Nat) "PointerAnalyzer$FaultException" "position" "I" "PointerAnalyzer") ∈ lw_tbl := lw_at lw_m11 55 rfl
theorem q2598 : (Jvm.Cond.fieldLinkNest "PointerAnalyzer" (31 : Nat) "PointerAnalyzer$Line" "kind" "LPointerAnalyzer$Kind;" "PointerAnalyzer") ∈ lw_tbl := lw_at lw_m11 76 rfl
theorem q2604 : (Jvm.Cond.fieldLinkNest "PointerAnalyzer" (275 : Nat) "PointerAnalyzer$Line" "left" "I" "PointerAnalyzer") ∈ lw_tbl := lw_at lw_m11 82 rfl
theorem q2610 : (Jvm.Cond.fieldLinkNest "PointerAnalyzer" (281 : Nat) "PointerAnalyzer$Line" "right" "I" "PointerAnalyzer") ∈ lw_tbl := lw_at lw_m11 88 rfl
theorem q2618 : (Jvm.Cond.fieldLinkNest "PointerAnalyzer" (284 : Nat) "PointerAnalyzer$Line" "extra" "I" "PointerAnalyzer") ∈ lw_tbl := lw_at lw_m11 96 rfl
theorem q2644 : (Jvm.Cond.fieldLink "PointerAnalyzer" (104 : Nat) "PointerAnalyzer$Kind" "ALLOCATION" "LPointerAnalyzer$Kind;") ∈ lw_all := lw_g (lw_at lw_m11 122 rfl) rfl
theorem q2645 : (Jvm.Cond.methodLink "PointerAnalyzer" (109 : Nat) ({ cls := "PointerAnalyzer$Program", name := "countAll", desc := "(LPointerAnalyzer$Kind;)I" } : Jvm.MethodName)) ∈ lw_all := lw_g (lw_at lw_m11 123 rfl) rfl
theorem q2650 : (Jvm.Cond.static ({ cls := "PointerAnalyzer", name := "count", desc := "(Ljava/util/ArrayList;LPointerAnalyzer$Kind;)I" } : Jvm.MethodName)) ∈ lw_all := lw_g (lw_at lw_m11 128 rfl) rfl
theorem q2651 : (Jvm.Cond.code ({ cls := "PointerAnalyzer", name := "count", desc := "(Ljava/util/ArrayList;LPointerAnalyzer$Kind;)I" } : Jvm.MethodName) prog_1_method_10_code (4 : Nat) (Option.some Jvm.ClassFile.FieldType.int)) ∈ lw_all := lw_g (lw_at lw_m11 129 rfl) rfl
theorem q2652 : (Jvm.Cond.methodLink "PointerAnalyzer" (25 : Nat) ({ cls := "java/util/ArrayList", name := "get", desc := "(I)Ljava/lang/Object;" } : Jvm.MethodName)) ∈ lw_all := lw_g (lw_at lw_m11 130 rfl) rfl
theorem q2653 : (Jvm.Cond.classLink "PointerAnalyzer" (29 : Nat) "PointerAnalyzer$Line") ∈ lw_all := lw_g (lw_at lw_m11 131 rfl) rfl
theorem q2654 : (Jvm.Cond.fieldLink "PointerAnalyzer" (113 : Nat) "PointerAnalyzer$Kind" "CALL" "LPointerAnalyzer$Kind;") ∈ lw_all := lw_g (lw_at lw_m11 132 rfl) rfl
theorem q2655 : (Jvm.Cond.methodLink "PointerAnalyzer" (116 : Nat) ({ cls := "PointerAnalyzer", name := "setProgram", desc := "(LPointerAnalyzer$Program;)V" } : Jvm.MethodName)) ∈ lw_all := lw_g (lw_at lw_m11 133 rfl) rfl
theorem q2656 : (Jvm.Cond.privateMethod ({ cls := "PointerAnalyzer", name := "setProgram", desc := "(LPointerAnalyzer$Program;)V" } : Jvm.MethodName)) ∈ lw_tbl := lw_at lw_m11 134 rfl
theorem q2657 : (Jvm.Cond.instanceMethod ({ cls := "PointerAnalyzer", name := "setProgram", desc := "(LPointerAnalyzer$Program;)V" } : Jvm.MethodName)) ∈ lw_all := lw_g (lw_at lw_m11 135 rfl) rfl
theorem q2658 : (Jvm.Cond.code ({ cls := "PointerAnalyzer", name := "setProgram", desc := "(LPointerAnalyzer$Program;)V" } : Jvm.MethodName) prog_1_method_14_code (2 : Nat) (Option.none : Option Jvm.ClassFile.FieldType)) ∈ lw_all := lw_g (lw_at lw_m11 136 rfl) rfl
theorem q2663 : (Jvm.Cond.instanceMethod ({ cls := "PointerAnalyzer", name := "kind", desc := "(I)I" } : Jvm.MethodName)) ∈ lw_all := lw_g (lw_at lw_m11 141 rfl) rfl
theorem q2664 : (Jvm.Cond.selects "PointerAnalyzer" ({ cls := "PointerAnalyzer", name := "kind", desc := "(I)I" } : Jvm.MethodName) ({ cls := "PointerAnalyzer", name := "kind", desc := "(I)I" } : Jvm.MethodName)) ∈ lw_all := lw_g (lw_at lw_m11 142 rfl) rfl
theorem q2665 : (Jvm.Cond.code ({ cls := "PointerAnalyzer", name := "kind", desc := "(I)I" } : Jvm.MethodName) prog_1_method_19_code (2 : Nat) (Option.some Jvm.ClassFile.FieldType.int)) ∈ lw_all := lw_g (lw_at lw_m11 143 rfl) rfl
theorem q2666 : (Jvm.Cond.methodLink "PointerAnalyzer" (125 : Nat) ({ cls := "PointerAnalyzer", name := "statement", desc := "(I)LPointerAnalyzer$Statement;" } : Jvm.MethodName)) ∈ lw_all := lw_g (lw_at lw_m11 144 rfl) rfl
theorem q2667 : (Jvm.Cond.privateMethod ({ cls := "PointerAnalyzer", name := "statement", desc := "(I)LPointerAnalyzer$Statement;" } : Jvm.MethodName)) ∈ lw_tbl := lw_at lw_m11 145 rfl
theorem q2668 : (Jvm.Cond.instanceMethod ({ cls := "PointerAnalyzer", name := "statement", desc := "(I)LPointerAnalyzer$Statement;" } : Jvm.MethodName)) ∈ lw_all := lw_g (lw_at lw_m11 146 rfl) rfl
theorem q2669 : (Jvm.Cond.code ({ cls := "PointerAnalyzer", name := "statement", desc := "(I)LPointerAnalyzer$Statement;" } : Jvm.MethodName) prog_1_method_18_code (2 : Nat) (Option.some (Jvm.ClassFile.FieldType.object "PointerAnalyzer$Statement"))) ∈ lw_all := lw_g (lw_at lw_m11 147 rfl) rfl
theorem q2670 : (Jvm.Cond.classLink "PointerAnalyzer" (123 : Nat) "PointerAnalyzer$Statement") ∈ lw_all := lw_g (lw_at lw_m11 148 rfl) rfl
theorem q2671 : (Jvm.Cond.methodLink "PointerAnalyzer" (133 : Nat) ({ cls := "PointerAnalyzer$Kind", name := "ordinal", desc := "()I" } : Jvm.MethodName)) ∈ lw_all := lw_g (lw_at lw_m11 149 rfl) rfl
theorem q2676 : (Jvm.Cond.instanceMethod ({ cls := "PointerAnalyzer", name := "functionOf", desc := "(I)I" } : Jvm.MethodName)) ∈ lw_all := lw_g (lw_at lw_m11 154 rfl) rfl
theorem q2677 : (Jvm.Cond.selects "PointerAnalyzer" ({ cls := "PointerAnalyzer", name := "functionOf", desc := "(I)I" } : Jvm.MethodName) ({ cls := "PointerAnalyzer", name := "functionOf", desc := "(I)I" } : Jvm.MethodName)) ∈ lw_all := lw_g (lw_at lw_m11 155 rfl) rfl
theorem q2678 : (Jvm.Cond.code ({ cls := "PointerAnalyzer", name := "functionOf", desc := "(I)I" } : Jvm.MethodName) prog_1_method_20_code (2 : Nat) (Option.some Jvm.ClassFile.FieldType.int)) ∈ lw_all := lw_g (lw_at lw_m11 156 rfl) rfl
theorem q2683 : (Jvm.Cond.instanceMethod ({ cls := "PointerAnalyzer", name := "setLimit", desc := "(I)I" } : Jvm.MethodName)) ∈ lw_all := lw_g (lw_at lw_m11 161 rfl) rfl
theorem q2684 : (Jvm.Cond.selects "PointerAnalyzer" ({ cls := "PointerAnalyzer", name := "setLimit", desc := "(I)I" } : Jvm.MethodName) ({ cls := "PointerAnalyzer", name := "setLimit", desc := "(I)I" } : Jvm.MethodName)) ∈ lw_all := lw_g (lw_at lw_m11 162 rfl) rfl
theorem q2685 : (Jvm.Cond.code ({ cls := "PointerAnalyzer", name := "setLimit", desc := "(I)I" } : Jvm.MethodName) prog_1_method_22_code (3 : Nat) (Option.some Jvm.ClassFile.FieldType.int)) ∈ lw_all := lw_g (lw_at lw_m11 163 rfl) rfl
theorem q2690 : (Jvm.Cond.instanceMethod ({ cls := "PointerAnalyzer", name := "contextCount", desc := "(I)I" } : Jvm.MethodName)) ∈ lw_all := lw_g (lw_at lw_m11 168 rfl) rfl
theorem q2691 : (Jvm.Cond.selects "PointerAnalyzer" ({ cls := "PointerAnalyzer", name := "contextCount", desc := "(I)I" } : Jvm.MethodName) ({ cls := "PointerAnalyzer", name := "contextCount", desc := "(I)I" } : Jvm.MethodName)) ∈ lw_all := lw_g (lw_at lw_m11 169 rfl) rfl
theorem q2692 : (Jvm.Cond.code ({ cls := "PointerAnalyzer", name := "contextCount", desc := "(I)I" } : Jvm.MethodName) prog_1_method_24_code (2 : Nat) (Option.some Jvm.ClassFile.FieldType.int)) ∈ lw_all := lw_g (lw_at lw_m11 170 rfl) rfl
theorem q2693 : (Jvm.Cond.methodLink "PointerAnalyzer" (158 : Nat) ({ cls := "PointerAnalyzer$Contexts", name := "count", desc := "(I)I" } : Jvm.MethodName)) ∈ lw_all := lw_g (lw_at lw_m11 171 rfl) rfl
theorem q2698 : (Jvm.Cond.instanceMethod ({ cls := "PointerAnalyzer", name := "contextLength", desc := "(II)I" } : Jvm.MethodName)) ∈ lw_all := lw_g (lw_at lw_m11 176 rfl) rfl
theorem q2699 : (Jvm.Cond.selects "PointerAnalyzer" ({ cls := "PointerAnalyzer", name := "contextLength", desc := "(II)I" } : Jvm.MethodName) ({ cls := "PointerAnalyzer", name := "contextLength", desc := "(II)I" } : Jvm.MethodName)) ∈ lw_all := lw_g (lw_at lw_m11 177 rfl) rfl
theorem q2700 : (Jvm.Cond.code ({ cls := "PointerAnalyzer", name := "contextLength", desc := "(II)I" } : Jvm.MethodName) prog_1_method_26_code (3 : Nat) (Option.some Jvm.ClassFile.FieldType.int)) ∈ lw_all := lw_g (lw_at lw_m11 178 rfl) rfl
theorem q2701 : (Jvm.Cond.methodLink "PointerAnalyzer" (169 : Nat) ({ cls := "PointerAnalyzer", name := "context", desc := "(II)LPointerAnalyzer$Context;" } : Jvm.MethodName)) ∈ lw_all := lw_g (lw_at lw_m11 179 rfl) rfl
theorem q2702 : (Jvm.Cond.privateMethod ({ cls := "PointerAnalyzer", name := "context", desc := "(II)LPointerAnalyzer$Context;" } : Jvm.MethodName)) ∈ lw_tbl := lw_at lw_m11 180 rfl
theorem q2703 : (Jvm.Cond.instanceMethod ({ cls := "PointerAnalyzer", name := "context", desc := "(II)LPointerAnalyzer$Context;" } : Jvm.MethodName)) ∈ lw_all := lw_g (lw_at lw_m11 181 rfl) rfl
theorem q2704 : (Jvm.Cond.code ({ cls := "PointerAnalyzer", name := "context", desc := "(II)LPointerAnalyzer$Context;" } : Jvm.MethodName) prog_1_method_25_code (3 : Nat) (Option.some (Jvm.ClassFile.FieldType.object "PointerAnalyzer$Context"))) ∈ lw_all := lw_g (lw_at lw_m11 182 rfl) rfl
theorem q2705 : (Jvm.Cond.classLink "PointerAnalyzer" (167 : Nat) "PointerAnalyzer$Context") ∈ lw_all := lw_g (lw_at lw_m11 183 rfl) rfl
theorem q2710 : (Jvm.Cond.instanceMethod ({ cls := "PointerAnalyzer", name := "contextCall", desc := "(III)I" } : Jvm.MethodName)) ∈ lw_all := lw_g (lw_at lw_m11 188 rfl) rfl
theorem q2711 : (Jvm.Cond.selects "PointerAnalyzer" ({ cls := "PointerAnalyzer", name := "contextCall", desc := "(III)I" } : Jvm.MethodName) ({ cls := "PointerAnalyzer", name := "contextCall", desc := "(III)I" } : Jvm.MethodName)) ∈ lw_all := lw_g (lw_at lw_m11 189 rfl) rfl
theorem q2712 : (Jvm.Cond.code ({ cls := "PointerAnalyzer", name := "contextCall", desc := "(III)I" } : Jvm.MethodName) prog_1_method_27_code (5 : Nat) (Option.some Jvm.ClassFile.FieldType.int)) ∈ lw_all := lw_g (lw_at lw_m11 190 rfl) rfl
theorem q2717 : (Jvm.Cond.instanceMethod ({ cls := "PointerAnalyzer", name := "pointsTo", desc := "(I)J" } : Jvm.MethodName)) ∈ lw_all := lw_g (lw_at lw_m11 195 rfl) rfl
theorem q2718 : (Jvm.Cond.selects "PointerAnalyzer" ({ cls := "PointerAnalyzer", name := "pointsTo", desc := "(I)J" } : Jvm.MethodName) ({ cls := "PointerAnalyzer", name := "pointsTo", desc := "(I)J" } : Jvm.MethodName)) ∈ lw_all := lw_g (lw_at lw_m11 196 rfl) rfl
theorem q2719 : (Jvm.Cond.code ({ cls := "PointerAnalyzer", name := "pointsTo", desc := "(I)J" } : Jvm.MethodName) prog_1_method_28_code (2 : Nat) (Option.some Jvm.ClassFile.FieldType.long)) ∈ lw_all := lw_g (lw_at lw_m11 197 rfl) rfl
theorem q2720 : (Jvm.Cond.methodLink "PointerAnalyzer" (177 : Nat) ({ cls := "PointerAnalyzer", name := "isVariable", desc := "(I)Z" } : Jvm.MethodName)) ∈ lw_all := lw_g (lw_at lw_m11 198 rfl) rfl
theorem q2721 : (Jvm.Cond.static ({ cls := "PointerAnalyzer", name := "isVariable", desc := "(I)Z" } : Jvm.MethodName)) ∈ lw_all := lw_g (lw_at lw_m11 199 rfl) rfl
theorem q2722 : (Jvm.Cond.code ({ cls := "PointerAnalyzer", name := "isVariable", desc := "(I)Z" } : Jvm.MethodName) prog_1_method_6_code (1 : Nat) (Option.some Jvm.ClassFile.FieldType.boolean)) ∈ lw_all := lw_g (lw_at lw_m11 200 rfl) rfl
theorem q2727 : (Jvm.Cond.instanceMethod ({ cls := "PointerAnalyzer", name := "pointsToIn", desc := "(II)J" } : Jvm.MethodName)) ∈ lw_all := lw_g (lw_at lw_m11 205 rfl) rfl
theorem q2728 : (Jvm.Cond.selects "PointerAnalyzer" ({ cls := "PointerAnalyzer", name := "pointsToIn", desc := "(II)J" } : Jvm.MethodName) ({ cls := "PointerAnalyzer", name := "pointsToIn", desc := "(II)J" } : Jvm.MethodName)) ∈ lw_all := lw_g (lw_at lw_m11 206 rfl) rfl
theorem q2729 : (Jvm.Cond.code ({ cls := "PointerAnalyzer", name := "pointsToIn", desc := "(II)J" } : Jvm.MethodName) prog_1_method_29_code (4 : Nat) (Option.some Jvm.ClassFile.FieldType.long)) ∈ lw_all := lw_g (lw_at lw_m11 207 rfl) rfl
theorem q2730 : (Jvm.Cond.methodLink "PointerAnalyzer" (184 : Nat) ({ cls := "PointerAnalyzer", name := "ownerOf", desc := "(I)I" } : Jvm.MethodName)) ∈ lw_all := lw_g (lw_at lw_m11 208 rfl) rfl
theorem q2731 : (Jvm.Cond.methodLinkNest "PointerAnalyzer" (187 : Nat) ({ cls := "PointerAnalyzer$Analysis", name := "cell", desc := "(II)LPointerAnalyzer$Cell;" } : Jvm.MethodName) "PointerAnalyzer") ∈ lw_tbl := lw_at lw_m11 209 rfl
theorem q2732 : (Jvm.Cond.methodLinkNest "PointerAnalyzer" (191 : Nat) ({ cls := "PointerAnalyzer$Analysis", name := "codes", desc := "(LPointerAnalyzer$Cell;)J" } : Jvm.MethodName) "PointerAnalyzer") ∈ lw_tbl := lw_at lw_m11 210 rfl
theorem q2737 : (Jvm.Cond.instanceMethod ({ cls := "PointerAnalyzer", name := "fieldPointsTo", desc := "(II)J" } : Jvm.MethodName)) ∈ lw_all := lw_g (lw_at lw_m11 215 rfl) rfl
theorem q2738 : (Jvm.Cond.selects "PointerAnalyzer" ({ cls := "PointerAnalyzer", name := "fieldPointsTo", desc := "(II)J" } : Jvm.MethodName) ({ cls := "PointerAnalyzer", name := "fieldPointsTo", desc := "(II)J" } : Jvm.MethodName)) ∈ lw_all := lw_g (lw_at lw_m11 216 rfl) rfl
theorem q2739 : (Jvm.Cond.code ({ cls := "PointerAnalyzer", name := "fieldPointsTo", desc := "(II)J" } : Jvm.MethodName) prog_1_method_31_code (3 : Nat) (Option.some Jvm.ClassFile.FieldType.long)) ∈ lw_all := lw_g (lw_at lw_m11 217 rfl) rfl
theorem q2740 : (Jvm.Cond.methodLink "PointerAnalyzer" (199 : Nat) ({ cls := "PointerAnalyzer", name := "code", desc := "(II)I" } : Jvm.MethodName)) ∈ lw_all := lw_g (lw_at lw_m11 218 rfl) rfl
theorem q2741 : (Jvm.Cond.privateMethod ({ cls := "PointerAnalyzer", name := "code", desc := "(II)I" } : Jvm.MethodName)) ∈ lw_tbl := lw_at lw_m11 219 rfl
theorem q2742 : (Jvm.Cond.instanceMethod ({ cls := "PointerAnalyzer", name := "code", desc := "(II)I" } : Jvm.MethodName)) ∈ lw_all := lw_g (lw_at lw_m11 220 rfl) rfl
theorem q2743 : (Jvm.Cond.code ({ cls := "PointerAnalyzer", name := "code", desc := "(II)I" } : Jvm.MethodName) prog_1_method_30_code (3 : Nat) (Option.some Jvm.ClassFile.FieldType.int)) ∈ lw_all := lw_g (lw_at lw_m11 221 rfl) rfl
theorem q2748 : (Jvm.Cond.instanceMethod ({ cls := "PointerAnalyzer", name := "mayAlias", desc := "(II)Z" } : Jvm.MethodName)) ∈ lw_all := lw_g (lw_at lw_m11 226 rfl) rfl
theorem q2749 : (Jvm.Cond.selects "PointerAnalyzer" ({ cls := "PointerAnalyzer", name := "mayAlias", desc := "(II)Z" } : Jvm.MethodName) ({ cls := "PointerAnalyzer", name := "mayAlias", desc := "(II)Z" } : Jvm.MethodName)) ∈ lw_all := lw_g (lw_at lw_m11 227 rfl) rfl
theorem q2750 : (Jvm.Cond.code ({ cls := "PointerAnalyzer", name := "mayAlias", desc := "(II)Z" } : Jvm.MethodName) prog_1_method_33_code (3 : Nat) (Option.some Jvm.ClassFile.FieldType.boolean)) ∈ lw_all := lw_g (lw_at lw_m11 228 rfl) rfl
theorem q2755 : (Jvm.Cond.instanceMethod ({ cls := "PointerAnalyzer", name := "reach", desc := "(I)J" } : Jvm.MethodName)) ∈ lw_all := lw_g (lw_at lw_m11 233 rfl) rfl
theorem q2756 : (Jvm.Cond.selects "PointerAnalyzer" ({ cls := "PointerAnalyzer", name := "reach", desc := "(I)J" } : Jvm.MethodName) ({ cls := "PointerAnalyzer", name := "reach", desc := "(I)J" } : Jvm.MethodName)) ∈ lw_all := lw_g (lw_at lw_m11 234 rfl) rfl
theorem q2757 : (Jvm.Cond.code ({ cls := "PointerAnalyzer", name := "reach", desc := "(I)J" } : Jvm.MethodName) prog_1_method_35_code (2 : Nat) (Option.some Jvm.ClassFile.FieldType.long)) ∈ lw_all := lw_g (lw_at lw_m11 235 rfl) rfl
theorem q2763 : (Jvm.Cond.instanceMethod ({ cls := "PointerAnalyzer", name := "rank", desc := "(II)I" } : Jvm.MethodName)) ∈ lw_all := lw_g (lw_at lw_m12 1 rfl) rfl
theorem q2764 : (Jvm.Cond.selects "PointerAnalyzer" ({ cls := "PointerAnalyzer", name := "rank", desc := "(II)I" } : Jvm.MethodName) ({ cls := "PointerAnalyzer", name := "rank", desc := "(II)I" } : Jvm.MethodName)) ∈ lw_all := lw_g (lw_at lw_m12 2 rfl) rfl
theorem q2765 : (Jvm.Cond.code ({ cls := "PointerAnalyzer", name := "rank", desc := "(II)I" } : Jvm.MethodName) prog_1_method_39_code (3 : Nat) (Option.some Jvm.ClassFile.FieldType.int)) ∈ lw_all := lw_g (lw_at lw_m12 3 rfl) rfl
theorem q2766 : (Jvm.Cond.methodLink "PointerAnalyzer" (238 : Nat) ({ cls := "PointerAnalyzer", name := "requireFact", desc := "(II)LPointerAnalyzer$Ranks;" } : Jvm.MethodName)) ∈ lw_all := lw_g (lw_at lw_m12 4 rfl) rfl
theorem q2767 : (Jvm.Cond.privateMethod ({ cls := "PointerAnalyzer", name := "requireFact", desc := "(II)LPointerAnalyzer$Ranks;" } : Jvm.MethodName)) ∈ lw_tbl := lw_at lw_m12 5 rfl
theorem q2768 : (Jvm.Cond.instanceMethod ({ cls := "PointerAnalyzer", name := "requireFact", desc := "(II)LPointerAnalyzer$Ranks;" } : Jvm.MethodName)) ∈ lw_all := lw_g (lw_at lw_m12 6 rfl) rfl
theorem q2769 : (Jvm.Cond.code ({ cls := "PointerAnalyzer", name := "requireFact", desc := "(II)LPointerAnalyzer$Ranks;" } : Jvm.MethodName) prog_1_method_38_code (4 : Nat) (Option.some (Jvm.ClassFile.FieldType.object "PointerAnalyzer$Ranks"))) ∈ lw_all := lw_g (lw_at lw_m12 7 rfl) rfl
theorem q2770 : (Jvm.Cond.classLink "PointerAnalyzer" (235 : Nat) "java/util/NoSuchElementException") ∈ lw_all := lw_g (lw_at lw_m12 8 rfl) rfl
theorem q2771 : (Jvm.Cond.methodLink "PointerAnalyzer" (237 : Nat) ({ cls := "java/util/NoSuchElementException", name := "<init>", desc := "()V" } : Jvm.MethodName)) ∈ lw_all := lw_g (lw_at lw_m12 9 rfl) rfl
theorem q2776 : (Jvm.Cond.instanceMethod ({ cls := "PointerAnalyzer", name := "reason", desc := "(II)I" } : Jvm.MethodName)) ∈ lw_all := lw_g (lw_at lw_m12 14 rfl) rfl
theorem q2777 : (Jvm.Cond.selects "PointerAnalyzer" ({ cls := "PointerAnalyzer", name := "reason", desc := "(II)I" } : Jvm.MethodName) ({ cls := "PointerAnalyzer", name := "reason", desc := "(II)I" } : Jvm.MethodName)) ∈ lw_all := lw_g (lw_at lw_m12 15 rfl) rfl
theorem q2778 : (Jvm.Cond.code ({ cls := "PointerAnalyzer", name := "reason", desc := "(II)I" } : Jvm.MethodName) prog_1_method_40_code (3 : Nat) (Option.some Jvm.ClassFile.FieldType.int)) ∈ lw_all := lw_g (lw_at lw_m12 16 rfl) rfl
theorem q2783 : (Jvm.Cond.instanceMethod ({ cls := "PointerAnalyzer", name := "unifiedTargets", desc := "(I)J" } : Jvm.MethodName)) ∈ lw_all := lw_g (lw_at lw_m12 21 rfl) rfl
theorem q2784 : (Jvm.Cond.selects "PointerAnalyzer" ({ cls := "PointerAnalyzer", name := "unifiedTargets", desc := "(I)J" } : Jvm.MethodName) ({ cls := "PointerAnalyzer", name := "unifiedTargets", desc := "(I)J" } : Jvm.MethodName)) ∈ lw_all := lw_g (lw_at lw_m12 22 rfl) rfl
theorem q2785 : (Jvm.Cond.code ({ cls := "PointerAnalyzer", name := "unifiedTargets", desc := "(I)J" } : Jvm.MethodName) prog_1_method_42_code (2 : Nat) (Option.some Jvm.ClassFile.FieldType.long)) ∈ lw_all := lw_g (lw_at lw_m12 23 rfl) rfl
theorem q2786 : (Jvm.Cond.methodLink "PointerAnalyzer" (252 : Nat) ({ cls := "PointerAnalyzer$Unification", name := "targets", desc := "(I)J" } : Jvm.MethodName)) ∈ lw_all := lw_g (lw_at lw_m12 24 rfl) rfl
theorem q2796 : (Jvm.Cond.instanceMethod ({ cls := "PointerAnalyzer", name := "areUnified", desc := "(II)Z" } : Jvm.MethodName)) ∈ lw_all := lw_g (lw_at lw_m12 34 rfl) rfl
theorem q2797 : (Jvm.Cond.selects "PointerAnalyzer" ({ cls := "PointerAnalyzer", name := "areUnified", desc := "(II)Z" } : Jvm.MethodName) ({ cls := "PointerAnalyzer", name := "areUnified", desc := "(II)Z" } : Jvm.MethodName)) ∈ lw_all := lw_g (lw_at lw_m12 35 rfl) rfl
theorem q2798 : (Jvm.Cond.code ({ cls := "PointerAnalyzer", name := "areUnified", desc := "(II)Z" } : Jvm.MethodName) prog_1_method_43_code (4 : Nat) (Option.some Jvm.ClassFile.FieldType.boolean)) ∈ lw_all := lw_g (lw_at lw_m12 36 rfl) rfl
theorem q2799 : (Jvm.Cond.methodLink "PointerAnalyzer" (259 : Nat) ({ cls := "PointerAnalyzer$Term", name := "find", desc := "()LPointerAnalyzer$Term;" } : Jvm.MethodName)) ∈ lw_all := lw_g (lw_at lw_m12 37 rfl) rfl
theorem q2804 : (Jvm.Cond.instanceMethod ({ cls := "PointerAnalyzer", name := "modifies", desc := "(I)J" } : Jvm.MethodName)) ∈ lw_all := lw_g (lw_at lw_m12 42 rfl) rfl
theorem q2805 : (Jvm.Cond.selects "PointerAnalyzer" ({ cls := "PointerAnalyzer", name := "modifies", desc := "(I)J" } : Jvm.MethodName) ({ cls := "PointerAnalyzer", name := "modifies", desc := "(I)J" } : Jvm.MethodName)) ∈ lw_all := lw_g (lw_at lw_m12 43 rfl) rfl
theorem q2806 : (Jvm.Cond.code ({ cls := "PointerAnalyzer", name := "modifies", desc := "(I)J" } : Jvm.MethodName) prog_1_method_45_code (8 : Nat) (Option.some Jvm.ClassFile.FieldType.long)) ∈ lw_all := lw_g (lw_at lw_m12 44 rfl) rfl
theorem q2807 : (Jvm.Cond.fieldLink "PointerAnalyzer" (268 : Nat) "PointerAnalyzer$Kind" "STORE" "LPointerAnalyzer$Kind;") ∈ lw_all := lw_g (lw_at lw_m12 45 rfl) rfl
theorem q2808 : (Jvm.Cond.methodLink "PointerAnalyzer" (271 : Nat) ({ cls := "PointerAnalyzer$Statement", name := "is", desc := "(LPointerAnalyzer$Kind;)Z" } : Jvm.MethodName)) ∈ lw_all := lw_g (lw_at lw_m12 46 rfl) rfl
theorem q2813 : (Jvm.Cond.instanceMethod ({ cls := "PointerAnalyzer", name := "isReachable", desc := "(I)Z" } : Jvm.MethodName)) ∈ lw_all := lw_g (lw_at lw_m12 51 rfl) rfl
theorem q2814 : (Jvm.Cond.selects "PointerAnalyzer" ({ cls := "PointerAnalyzer", name := "isReachable", desc := "(I)Z" } : Jvm.MethodName) ({ cls := "PointerAnalyzer", name := "isReachable", desc := "(I)Z" } : Jvm.MethodName)) ∈ lw_all := lw_g (lw_at lw_m12 52 rfl) rfl
theorem q2815 : (Jvm.Cond.code ({ cls := "PointerAnalyzer", name := "isReachable", desc := "(I)Z" } : Jvm.MethodName) prog_1_method_46_code (2 : Nat) (Option.some Jvm.ClassFile.FieldType.boolean)) ∈ lw_all := lw_g (lw_at lw_m12 53 rfl) rfl
theorem q2820 : (Jvm.Cond.instanceMethod ({ cls := "PointerAnalyzer", name := "isRecursive", desc := "(I)Z" } : Jvm.MethodName)) ∈ lw_all := lw_g (lw_at lw_m12 58 rfl) rfl
theorem q2821 : (Jvm.Cond.selects "PointerAnalyzer" ({ cls := "PointerAnalyzer", name := "isRecursive", desc := "(I)Z" } : Jvm.MethodName) ({ cls := "PointerAnalyzer", name := "isRecursive", desc := "(I)Z" } : Jvm.MethodName)) ∈ lw_all := lw_g (lw_at lw_m12 59 rfl) rfl
theorem q2822 : (Jvm.Cond.code ({ cls := "PointerAnalyzer", name := "isRecursive", desc := "(I)Z" } : Jvm.MethodName) prog_1_method_47_code (2 : Nat) (Option.some Jvm.ClassFile.FieldType.boolean)) ∈ lw_all := lw_g (lw_at lw_m12 60 rfl) rfl
theorem q2827 : (Jvm.Cond.instanceMethod ({ cls := "PointerAnalyzer", name := "cycleOf", desc := "(I)I" } : Jvm.MethodName)) ∈ lw_all := lw_g (lw_at lw_m12 65 rfl) rfl
theorem q2828 : (Jvm.Cond.selects "PointerAnalyzer" ({ cls := "PointerAnalyzer", name := "cycleOf", desc := "(I)I" } : Jvm.MethodName) ({ cls := "PointerAnalyzer", name := "cycleOf", desc := "(I)I" } : Jvm.MethodName)) ∈ lw_all := lw_g (lw_at lw_m12 66 rfl) rfl
theorem q2829 : (Jvm.Cond.code ({ cls := "PointerAnalyzer", name := "cycleOf", desc := "(I)I" } : Jvm.MethodName) prog_1_method_49_code (6 : Nat) (Option.some Jvm.ClassFile.FieldType.int)) ∈ lw_all := lw_g (lw_at lw_m12 67 rfl) rfl
theorem q2830 : (Jvm.Cond.methodLink "PointerAnalyzer" (290 : Nat) ({ cls := "PointerAnalyzer", name := "paths", desc := "()[I" } : Jvm.MethodName)) ∈ lw_all := lw_g (lw_at lw_m12 68 rfl) rfl
theorem q2831 : (Jvm.Cond.privateMethod ({ cls := "PointerAnalyzer", name := "paths", desc := "()[I" } : Jvm.MethodName)) ∈ lw_tbl := lw_at lw_m12 69 rfl
theorem q2832 : (Jvm.Cond.instanceMethod ({ cls := "PointerAnalyzer", name := "paths", desc := "()[I" } : Jvm.MethodName)) ∈ lw_all := lw_g (lw_at lw_m12 70 rfl) rfl
theorem q2833 : (Jvm.Cond.code ({ cls := "PointerAnalyzer", name := "paths", desc := "()[I" } : Jvm.MethodName) prog_1_method_48_code (4 : Nat) (Option.some (Jvm.ClassFile.FieldType.array Jvm.ClassFile.FieldType.int))) ∈ lw_all := lw_g (lw_at lw_m12 71 rfl) rfl
theorem q2834 : (Jvm.Cond.fieldLink "PointerAnalyzer" (278 : Nat) "PointerAnalyzer$Kind" "COPY" "LPointerAnalyzer$Kind;") ∈ lw_all := lw_g (lw_at lw_m12 72 rfl) rfl
theorem q2835 : (Jvm.Cond.methodLink "PointerAnalyzer" (287 : Nat) ({ cls := "PointerAnalyzer", name := "local", desc := "(II)I" } : Jvm.MethodName)) ∈ lw_all := lw_g (lw_at lw_m12 73 rfl) rfl
theorem q2840 : (Jvm.Cond.instanceMethod ({ cls := "PointerAnalyzer", name := "observed", desc := "(I)J" } : Jvm.MethodName)) ∈ lw_all := lw_g (lw_at lw_m12 78 rfl) rfl
theorem q2841 : (Jvm.Cond.selects "PointerAnalyzer" ({ cls := "PointerAnalyzer", name := "observed", desc := "(I)J" } : Jvm.MethodName) ({ cls := "PointerAnalyzer", name := "observed", desc := "(I)J" } : Jvm.MethodName)) ∈ lw_all := lw_g (lw_at lw_m12 79 rfl) rfl
theorem q2842 : (Jvm.Cond.code ({ cls := "PointerAnalyzer", name := "observed", desc := "(I)J" } : Jvm.MethodName) prog_1_method_51_code (2 : Nat) (Option.some Jvm.ClassFile.FieldType.long)) ∈ lw_all := lw_g (lw_at lw_m12 80 rfl) rfl
theorem q2847 : (Jvm.Cond.instanceMethod ({ cls := "PointerAnalyzer", name := "fieldObserved", desc := "(II)J" } : Jvm.MethodName)) ∈ lw_all := lw_g (lw_at lw_m12 85 rfl) rfl
theorem q2848 : (Jvm.Cond.selects "PointerAnalyzer" ({ cls := "PointerAnalyzer", name := "fieldObserved", desc := "(II)J" } : Jvm.MethodName) ({ cls := "PointerAnalyzer", name := "fieldObserved", desc := "(II)J" } : Jvm.MethodName)) ∈ lw_all := lw_g (lw_at lw_m12 86 rfl) rfl
theorem q2849 : (Jvm.Cond.code ({ cls := "PointerAnalyzer", name := "fieldObserved", desc := "(II)J" } : Jvm.MethodName) prog_1_method_52_code (4 : Nat) (Option.some Jvm.ClassFile.FieldType.long)) ∈ lw_all := lw_g (lw_at lw_m12 87 rfl) rfl
theorem q2868 : (Jvm.Cond.instanceMethod ({ cls := "PointerAnalyzer", name := "precision", desc := "()D" } : Jvm.MethodName)) ∈ lw_all := lw_g (lw_at lw_m12 106 rfl) rfl
theorem q2869 : (Jvm.Cond.selects "PointerAnalyzer" ({ cls := "PointerAnalyzer", name := "precision", desc := "()D" } : Jvm.MethodName) ({ cls := "PointerAnalyzer", name := "precision", desc := "()D" } : Jvm.MethodName)) ∈ lw_all := lw_g (lw_at lw_m12 107 rfl) rfl
theorem q2870 : (Jvm.Cond.code ({ cls := "PointerAnalyzer", name := "precision", desc := "()D" } : Jvm.MethodName) prog_1_method_55_code (5 : Nat) (Option.some Jvm.ClassFile.FieldType.double)) ∈ lw_all := lw_g (lw_at lw_m12 108 rfl) rfl
theorem q2871 : (Jvm.Cond.methodLink "PointerAnalyzer" (310 : Nat) ({ cls := "java/lang/Long", name := "bitCount", desc := "(J)I" } : Jvm.MethodName)) ∈ lw_all := lw_g (lw_at lw_m12 109 rfl) rfl
theorem q2872 : (Jvm.Cond.classLink "PointerAnalyzer" (313 : Nat) "java/lang/ArithmeticException") ∈ lw_all := lw_g (lw_at lw_m12 110 rfl) rfl
theorem q2873 : (Jvm.Cond.methodLink "PointerAnalyzer" (315 : Nat) ({ cls := "java/lang/ArithmeticException", name := "<init>", desc := "()V" } : Jvm.MethodName)) ∈ lw_all := lw_g (lw_at lw_m12 111 rfl) rfl
theorem q2881 : (Jvm.Cond.instanceMethod ({ cls := "PointerAnalyzer", name := "averageTargets", desc := "()F" } : Jvm.MethodName)) ∈ lw_all := lw_g (lw_at lw_m12 119 rfl) rfl
theorem q2882 : (Jvm.Cond.selects "PointerAnalyzer" ({ cls := "PointerAnalyzer", name := "averageTargets", desc := "()F" } : Jvm.MethodName) ({ cls := "PointerAnalyzer", name := "averageTargets", desc := "()F" } : Jvm.MethodName)) ∈ lw_all := lw_g (lw_at lw_m12 120 rfl) rfl
theorem q2883 : (Jvm.Cond.code ({ cls := "PointerAnalyzer", name := "averageTargets", desc := "()F" } : Jvm.MethodName) prog_1_method_56_code (5 : Nat) (Option.some Jvm.ClassFile.FieldType.float)) ∈ lw_all := lw_g (lw_at lw_m12 121 rfl) rfl
theorem q2888 : (Jvm.Cond.instanceMethod ({ cls := "PointerAnalyzer", name := "restore", desc := "()V" } : Jvm.MethodName)) ∈ lw_all := lw_g (lw_at lw_m12 126 rfl) rfl
theorem q2889 : (Jvm.Cond.selects "PointerAnalyzer" ({ cls := "PointerAnalyzer", name := "restore", desc := "()V" } : Jvm.MethodName) ({ cls := "PointerAnalyzer", name := "restore", desc := "()V" } : Jvm.MethodName)) ∈ lw_all := lw_g (lw_at lw_m12 127 rfl) rfl
theorem q2890 : (Jvm.Cond.code ({ cls := "PointerAnalyzer", name := "restore", desc := "()V" } : Jvm.MethodName) prog_1_method_58_code (1 : Nat) (Option.none : Option Jvm.ClassFile.FieldType)) ∈ lw_all := lw_g (lw_at lw_m12 128 rfl) rfl
theorem q3463 : (Jvm.Cond.castable "PointerAnalyzer" "java/lang/Object") ∈ lw_tbl := lw_at lw_m14 221 rfl
theorem in_X1 : ∀ w ∈ wsX10, w ∈ lw_all := lw_in wsX10 [1256, 1258, 1260, 1262, 1264, 1266, 1268, 1270, 1272] (by decide +kernel) (by decide +kernel)

/-! PointerAnalyzer$Contexts -/
set_option maxRecDepth 100000
def RX10 : String := "PointerAnalyzer$Contexts"
def TX10 : u_T := fun k => match k with
  | _ => ("PointerAnalyzer$Contexts", "sorted", "Ljava/util/ArrayList;", true)
def tyX10 : Nat → FieldType := fun k => match k with
  | _ => .object "java/util/ArrayList"
abbrev wsX100 : List Cond := u_ws RX10 TX10 1
theorem nmX10 : ∀ a, a < 1 → ∀ b, b < 1 → a ≠ b → (TX10 a).2.1 ≠ (TX10 b).2.1 := by decide +kernel
theorem tyX10_ok : ∀ k, k < 1 → parseFieldDescriptor (TX10 k).2.2.1 = some (tyX10 k) := by decide +kernel
abbrev cX10_init : ByteArray := prog_5_method_1_code
def yX10_init : MethodName := ⟨RX10, "<init>", "(LPointerAnalyzer$Program;I)V"⟩
def dkwX10_init_10 : List UInt8 := [21, 5, 182, 0, 25, 192, 0, 60, 183, 0, 62, 182, 0, 21, 87, 132, 5, 1, 167, 255, 223, 177]
abbrev dktX10_init_10 : List UInt8 := dkwX10_init_10 ++ []
def dkwX10_init_9 : List UInt8 := [167, 255, 134, 167, 255, 120, 3, 54, 5, 21, 5, 7, 162, 0, 33, 42, 180, 0, 12, 187, 0, 9, 89, 45]
abbrev dktX10_init_9 : List UInt8 := dkwX10_init_9 ++ dktX10_init_10
def dkwX10_init_8 : List UInt8 := [180, 0, 74, 28, 182, 0, 77, 182, 0, 34, 128, 54, 4, 132, 8, 1, 167, 255, 201, 132, 5, 1]
abbrev dktX10_init_8 : List UInt8 := dkwX10_init_8 ++ dktX10_init_9
def dkwX10_init_7 : List UInt8 := [180, 0, 65, 180, 0, 69, 182, 0, 25, 192, 0, 18, 25, 7, 21, 8, 182, 0, 25, 192, 0, 29, 25, 6]
abbrev dktX10_init_7 : List UInt8 := dkwX10_init_7 ++ dktX10_init_8
def dkwX10_init_6 : List UInt8 := [183, 0, 62, 58, 7, 3, 54, 8, 21, 8, 25, 7, 182, 0, 40, 162, 0, 51, 21, 4, 45, 25, 6]
abbrev dktX10_init_6 : List UInt8 := dkwX10_init_6 ++ dktX10_init_7
def dkwX10_init_5 : List UInt8 := [182, 0, 52, 153, 0, 85, 187, 0, 9, 89, 45, 25, 6, 180, 0, 56, 182, 0, 25, 192, 0, 60]
abbrev dktX10_init_5 : List UInt8 := dkwX10_init_5 ++ dktX10_init_6
def dkwX10_init_4 : List UInt8 := [162, 0, 116, 43, 180, 0, 35, 21, 5, 182, 0, 25, 192, 0, 44, 58, 6, 25, 6, 178, 0, 46]
abbrev dktX10_init_4 : List UInt8 := dkwX10_init_4 ++ dktX10_init_5
def dkwX10_init_3 : List UInt8 := [87, 4, 54, 4, 21, 4, 153, 0, 137, 3, 54, 4, 3, 54, 5, 21, 5, 43, 180, 0, 35, 182, 0, 40]
abbrev dktX10_init_3 : List UInt8 := dkwX10_init_3 ++ dktX10_init_4
def dkwX10_init_2 : List UInt8 := [167, 255, 235, 45, 3, 182, 0, 25, 192, 0, 18, 187, 0, 29, 89, 3, 188, 10, 183, 0, 31, 182, 0, 34]
abbrev dktX10_init_2 : List UInt8 := dkwX10_init_2 ++ dktX10_init_3
def dkwX10_init_1 : List UInt8 := [54, 4, 21, 4, 7, 162, 0, 21, 45, 187, 0, 18, 89, 183, 0, 20, 182, 0, 21, 87, 132, 4, 1]
abbrev dktX10_init_1 : List UInt8 := dkwX10_init_1 ++ dktX10_init_2
def dkwX10_init_0 : List UInt8 := [42, 183, 0, 3, 42, 187, 0, 9, 89, 183, 0, 11, 181, 0, 12, 187, 0, 9, 89, 183, 0, 11, 78, 3]
abbrev dktX10_init_0 : List UInt8 := dkwX10_init_0 ++ dktX10_init_1
theorem dksX10_init_0 : cX10_init.data.toList.drop 0 = dktX10_init_0 := by decide +kernel
theorem dksX10_init_1 : cX10_init.data.toList.drop 24 = dktX10_init_1 := dk_seg dksX10_init_0 24 rfl rfl
theorem dksX10_init_2 : cX10_init.data.toList.drop 47 = dktX10_init_2 := dk_seg dksX10_init_1 23 rfl rfl
theorem dksX10_init_3 : cX10_init.data.toList.drop 71 = dktX10_init_3 := dk_seg dksX10_init_2 24 rfl rfl
theorem dksX10_init_4 : cX10_init.data.toList.drop 95 = dktX10_init_4 := dk_seg dksX10_init_3 24 rfl rfl
theorem dksX10_init_5 : cX10_init.data.toList.drop 117 = dktX10_init_5 := dk_seg dksX10_init_4 22 rfl rfl
theorem dksX10_init_6 : cX10_init.data.toList.drop 139 = dktX10_init_6 := dk_seg dksX10_init_5 22 rfl rfl
theorem dksX10_init_7 : cX10_init.data.toList.drop 162 = dktX10_init_7 := dk_seg dksX10_init_6 23 rfl rfl
theorem dksX10_init_8 : cX10_init.data.toList.drop 186 = dktX10_init_8 := dk_seg dksX10_init_7 24 rfl rfl
theorem dksX10_init_9 : cX10_init.data.toList.drop 208 = dktX10_init_9 := dk_seg dksX10_init_8 22 rfl rfl
theorem dksX10_init_10 : cX10_init.data.toList.drop 232 = dktX10_init_10 := dk_seg dksX10_init_9 24 rfl rfl
theorem dX10_init_0 : decode cX10_init 0 = .ok (.aload_n 0, 1) := dk_42 (dk_at dksX10_init_0 0 rfl rfl)
theorem dX10_init_1 : decode cX10_init 1 = .ok (.invokespecial 3, 3) := dk_183 0 3 (dk_at dksX10_init_0 1 rfl rfl)
theorem dX10_init_4 : decode cX10_init 4 = .ok (.aload_n 0, 1) := dk_42 (dk_at dksX10_init_0 4 rfl rfl)
theorem dX10_init_5 : decode cX10_init 5 = .ok (.new 9, 3) := dk_187 0 9 (dk_at dksX10_init_0 5 rfl rfl)
theorem dX10_init_8 : decode cX10_init 8 = .ok (.dup, 1) := dk_89 (dk_at dksX10_init_0 8 rfl rfl)
theorem dX10_init_9 : decode cX10_init 9 = .ok (.invokespecial 11, 3) := dk_183 0 11 (dk_at dksX10_init_0 9 rfl rfl)
theorem dX10_init_12 : decode cX10_init 12 = .ok (.putfield 12, 3) := dk_181 0 12 (dk_at dksX10_init_0 12 rfl rfl)
theorem dX10_init_15 : decode cX10_init 15 = .ok (.new 9, 3) := dk_187 0 9 (dk_at dksX10_init_0 15 rfl rfl)
theorem dX10_init_18 : decode cX10_init 18 = .ok (.dup, 1) := dk_89 (dk_at dksX10_init_0 18 rfl rfl)
theorem dX10_init_19 : decode cX10_init 19 = .ok (.invokespecial 11, 3) := dk_183 0 11 (dk_at dksX10_init_0 19 rfl rfl)
theorem dX10_init_22 : decode cX10_init 22 = .ok (.astore_n 3, 1) := dk_78 (dk_at dksX10_init_0 22 rfl rfl)
theorem dX10_init_23 : decode cX10_init 23 = .ok (.iconst 0, 1) := dk_3 (dk_at dksX10_init_0 23 rfl rfl)
theorem dX10_init_24 : decode cX10_init 24 = .ok (.istore 4, 2) := dk_54 4 (dk_at dksX10_init_1 0 rfl rfl)
theorem dX10_init_26 : decode cX10_init 26 = .ok (.iload 4, 2) := dk_21 4 (dk_at dksX10_init_1 2 rfl rfl)
theorem dX10_init_28 : decode cX10_init 28 = .ok (.iconst 4, 1) := dk_7 (dk_at dksX10_init_1 4 rfl rfl)
theorem dX10_init_29 : decode cX10_init 29 = .ok (.if_icmp .ge 21, 3) := dk_162 0 21 (dk_at dksX10_init_1 5 rfl rfl)
theorem dX10_init_32 : decode cX10_init 32 = .ok (.aload_n 3, 1) := dk_45 (dk_at dksX10_init_1 8 rfl rfl)
theorem dX10_init_33 : decode cX10_init 33 = .ok (.new 18, 3) := dk_187 0 18 (dk_at dksX10_init_1 9 rfl rfl)
theorem dX10_init_36 : decode cX10_init 36 = .ok (.dup, 1) := dk_89 (dk_at dksX10_init_1 12 rfl rfl)
theorem dX10_init_37 : decode cX10_init 37 = .ok (.invokespecial 20, 3) := dk_183 0 20 (dk_at dksX10_init_1 13 rfl rfl)
theorem dX10_init_40 : decode cX10_init 40 = .ok (.invokevirtual 21, 3) := dk_182 0 21 (dk_at dksX10_init_1 16 rfl rfl)
theorem dX10_init_43 : decode cX10_init 43 = .ok (.pop, 1) := dk_87 (dk_at dksX10_init_1 19 rfl rfl)
theorem dX10_init_44 : decode cX10_init 44 = .ok (.iinc 4 1, 3) := dk_132 4 1 (dk_at dksX10_init_1 20 rfl rfl)
theorem dX10_init_47 : decode cX10_init 47 = .ok (.goto (-21), 3) := dk_167 255 235 (dk_at dksX10_init_2 0 rfl rfl)
theorem dX10_init_50 : decode cX10_init 50 = .ok (.aload_n 3, 1) := dk_45 (dk_at dksX10_init_2 3 rfl rfl)
theorem dX10_init_51 : decode cX10_init 51 = .ok (.iconst 0, 1) := dk_3 (dk_at dksX10_init_2 4 rfl rfl)
theorem dX10_init_52 : decode cX10_init 52 = .ok (.invokevirtual 25, 3) := dk_182 0 25 (dk_at dksX10_init_2 5 rfl rfl)
theorem dX10_init_55 : decode cX10_init 55 = .ok (.checkcast 18, 3) := dk_192 0 18 (dk_at dksX10_init_2 8 rfl rfl)
theorem dX10_init_58 : decode cX10_init 58 = .ok (.new 29, 3) := dk_187 0 29 (dk_at dksX10_init_2 11 rfl rfl)
theorem dX10_init_61 : decode cX10_init 61 = .ok (.dup, 1) := dk_89 (dk_at dksX10_init_2 14 rfl rfl)
theorem dX10_init_62 : decode cX10_init 62 = .ok (.iconst 0, 1) := dk_3 (dk_at dksX10_init_2 15 rfl rfl)
theorem dX10_init_63 : decode cX10_init 63 = .ok (.newarray .int, 2) := dk_188_10 (dk_at dksX10_init_2 16 rfl rfl)
theorem dX10_init_65 : decode cX10_init 65 = .ok (.invokespecial 31, 3) := dk_183 0 31 (dk_at dksX10_init_2 18 rfl rfl)
theorem dX10_init_68 : decode cX10_init 68 = .ok (.invokevirtual 34, 3) := dk_182 0 34 (dk_at dksX10_init_2 21 rfl rfl)
theorem dX10_init_71 : decode cX10_init 71 = .ok (.pop, 1) := dk_87 (dk_at dksX10_init_3 0 rfl rfl)
theorem dX10_init_72 : decode cX10_init 72 = .ok (.iconst 1, 1) := dk_4 (dk_at dksX10_init_3 1 rfl rfl)
theorem dX10_init_73 : decode cX10_init 73 = .ok (.istore 4, 2) := dk_54 4 (dk_at dksX10_init_3 2 rfl rfl)
theorem dX10_init_75 : decode cX10_init 75 = .ok (.iload 4, 2) := dk_21 4 (dk_at dksX10_init_3 4 rfl rfl)
theorem dX10_init_77 : decode cX10_init 77 = .ok (.ifCond .eq 137, 3) := dk_153 0 137 (dk_at dksX10_init_3 6 rfl rfl)
theorem dX10_init_80 : decode cX10_init 80 = .ok (.iconst 0, 1) := dk_3 (dk_at dksX10_init_3 9 rfl rfl)
theorem dX10_init_81 : decode cX10_init 81 = .ok (.istore 4, 2) := dk_54 4 (dk_at dksX10_init_3 10 rfl rfl)
theorem dX10_init_83 : decode cX10_init 83 = .ok (.iconst 0, 1) := dk_3 (dk_at dksX10_init_3 12 rfl rfl)
theorem dX10_init_84 : decode cX10_init 84 = .ok (.istore 5, 2) := dk_54 5 (dk_at dksX10_init_3 13 rfl rfl)
theorem dX10_init_86 : decode cX10_init 86 = .ok (.iload 5, 2) := dk_21 5 (dk_at dksX10_init_3 15 rfl rfl)
theorem dX10_init_88 : decode cX10_init 88 = .ok (.aload_n 1, 1) := dk_43 (dk_at dksX10_init_3 17 rfl rfl)
theorem dX10_init_89 : decode cX10_init 89 = .ok (.getfield 35, 3) := dk_180 0 35 (dk_at dksX10_init_3 18 rfl rfl)
theorem dX10_init_92 : decode cX10_init 92 = .ok (.invokevirtual 40, 3) := dk_182 0 40 (dk_at dksX10_init_3 21 rfl rfl)
theorem dX10_init_95 : decode cX10_init 95 = .ok (.if_icmp .ge 116, 3) := dk_162 0 116 (dk_at dksX10_init_4 0 rfl rfl)
theorem dX10_init_98 : decode cX10_init 98 = .ok (.aload_n 1, 1) := dk_43 (dk_at dksX10_init_4 3 rfl rfl)
theorem dX10_init_99 : decode cX10_init 99 = .ok (.getfield 35, 3) := dk_180 0 35 (dk_at dksX10_init_4 4 rfl rfl)
theorem dX10_init_102 : decode cX10_init 102 = .ok (.iload 5, 2) := dk_21 5 (dk_at dksX10_init_4 7 rfl rfl)
theorem dX10_init_104 : decode cX10_init 104 = .ok (.invokevirtual 25, 3) := dk_182 0 25 (dk_at dksX10_init_4 9 rfl rfl)
theorem dX10_init_107 : decode cX10_init 107 = .ok (.checkcast 44, 3) := dk_192 0 44 (dk_at dksX10_init_4 12 rfl rfl)
theorem dX10_init_110 : decode cX10_init 110 = .ok (.astore 6, 2) := dk_58 6 (dk_at dksX10_init_4 15 rfl rfl)
theorem dX10_init_112 : decode cX10_init 112 = .ok (.aload 6, 2) := dk_25 6 (dk_at dksX10_init_4 17 rfl rfl)
theorem dX10_init_114 : decode cX10_init 114 = .ok (.getstatic 46, 3) := dk_178 0 46 (dk_at dksX10_init_4 19 rfl rfl)
theorem dX10_init_117 : decode cX10_init 117 = .ok (.invokevirtual 52, 3) := dk_182 0 52 (dk_at dksX10_init_5 0 rfl rfl)
theorem dX10_init_120 : decode cX10_init 120 = .ok (.ifCond .eq 85, 3) := dk_153 0 85 (dk_at dksX10_init_5 3 rfl rfl)
theorem dX10_init_123 : decode cX10_init 123 = .ok (.new 9, 3) := dk_187 0 9 (dk_at dksX10_init_5 6 rfl rfl)
theorem dX10_init_126 : decode cX10_init 126 = .ok (.dup, 1) := dk_89 (dk_at dksX10_init_5 9 rfl rfl)
theorem dX10_init_127 : decode cX10_init 127 = .ok (.aload_n 3, 1) := dk_45 (dk_at dksX10_init_5 10 rfl rfl)
theorem dX10_init_128 : decode cX10_init 128 = .ok (.aload 6, 2) := dk_25 6 (dk_at dksX10_init_5 11 rfl rfl)
theorem dX10_init_130 : decode cX10_init 130 = .ok (.getfield 56, 3) := dk_180 0 56 (dk_at dksX10_init_5 13 rfl rfl)
theorem dX10_init_133 : decode cX10_init 133 = .ok (.invokevirtual 25, 3) := dk_182 0 25 (dk_at dksX10_init_5 16 rfl rfl)
theorem dX10_init_136 : decode cX10_init 136 = .ok (.checkcast 60, 3) := dk_192 0 60 (dk_at dksX10_init_5 19 rfl rfl)
theorem dX10_init_139 : decode cX10_init 139 = .ok (.invokespecial 62, 3) := dk_183 0 62 (dk_at dksX10_init_6 0 rfl rfl)
theorem dX10_init_142 : decode cX10_init 142 = .ok (.astore 7, 2) := dk_58 7 (dk_at dksX10_init_6 3 rfl rfl)
theorem dX10_init_144 : decode cX10_init 144 = .ok (.iconst 0, 1) := dk_3 (dk_at dksX10_init_6 5 rfl rfl)
theorem dX10_init_145 : decode cX10_init 145 = .ok (.istore 8, 2) := dk_54 8 (dk_at dksX10_init_6 6 rfl rfl)
theorem dX10_init_147 : decode cX10_init 147 = .ok (.iload 8, 2) := dk_21 8 (dk_at dksX10_init_6 8 rfl rfl)
theorem dX10_init_149 : decode cX10_init 149 = .ok (.aload 7, 2) := dk_25 7 (dk_at dksX10_init_6 10 rfl rfl)
theorem dX10_init_151 : decode cX10_init 151 = .ok (.invokevirtual 40, 3) := dk_182 0 40 (dk_at dksX10_init_6 12 rfl rfl)
theorem dX10_init_154 : decode cX10_init 154 = .ok (.if_icmp .ge 51, 3) := dk_162 0 51 (dk_at dksX10_init_6 15 rfl rfl)
theorem dX10_init_157 : decode cX10_init 157 = .ok (.iload 4, 2) := dk_21 4 (dk_at dksX10_init_6 18 rfl rfl)
theorem dX10_init_159 : decode cX10_init 159 = .ok (.aload_n 3, 1) := dk_45 (dk_at dksX10_init_6 20 rfl rfl)
theorem dX10_init_160 : decode cX10_init 160 = .ok (.aload 6, 2) := dk_25 6 (dk_at dksX10_init_6 21 rfl rfl)
theorem dX10_init_162 : decode cX10_init 162 = .ok (.getfield 65, 3) := dk_180 0 65 (dk_at dksX10_init_7 0 rfl rfl)
theorem dX10_init_165 : decode cX10_init 165 = .ok (.getfield 69, 3) := dk_180 0 69 (dk_at dksX10_init_7 3 rfl rfl)
theorem dX10_init_168 : decode cX10_init 168 = .ok (.invokevirtual 25, 3) := dk_182 0 25 (dk_at dksX10_init_7 6 rfl rfl)
theorem dX10_init_171 : decode cX10_init 171 = .ok (.checkcast 18, 3) := dk_192 0 18 (dk_at dksX10_init_7 9 rfl rfl)
theorem dX10_init_174 : decode cX10_init 174 = .ok (.aload 7, 2) := dk_25 7 (dk_at dksX10_init_7 12 rfl rfl)
theorem dX10_init_176 : decode cX10_init 176 = .ok (.iload 8, 2) := dk_21 8 (dk_at dksX10_init_7 14 rfl rfl)
theorem dX10_init_178 : decode cX10_init 178 = .ok (.invokevirtual 25, 3) := dk_182 0 25 (dk_at dksX10_init_7 16 rfl rfl)
theorem dX10_init_181 : decode cX10_init 181 = .ok (.checkcast 29, 3) := dk_192 0 29 (dk_at dksX10_init_7 19 rfl rfl)
theorem dX10_init_184 : decode cX10_init 184 = .ok (.aload 6, 2) := dk_25 6 (dk_at dksX10_init_7 22 rfl rfl)
theorem dX10_init_186 : decode cX10_init 186 = .ok (.getfield 74, 3) := dk_180 0 74 (dk_at dksX10_init_8 0 rfl rfl)
theorem dX10_init_189 : decode cX10_init 189 = .ok (.iload_n 2, 1) := dk_28 (dk_at dksX10_init_8 3 rfl rfl)
theorem dX10_init_190 : decode cX10_init 190 = .ok (.invokevirtual 77, 3) := dk_182 0 77 (dk_at dksX10_init_8 4 rfl rfl)
theorem dX10_init_193 : decode cX10_init 193 = .ok (.invokevirtual 34, 3) := dk_182 0 34 (dk_at dksX10_init_8 7 rfl rfl)
theorem dX10_init_196 : decode cX10_init 196 = .ok (.ior, 1) := dk_128 (dk_at dksX10_init_8 10 rfl rfl)
theorem dX10_init_197 : decode cX10_init 197 = .ok (.istore 4, 2) := dk_54 4 (dk_at dksX10_init_8 11 rfl rfl)
theorem dX10_init_199 : decode cX10_init 199 = .ok (.iinc 8 1, 3) := dk_132 8 1 (dk_at dksX10_init_8 13 rfl rfl)
theorem dX10_init_202 : decode cX10_init 202 = .ok (.goto (-55), 3) := dk_167 255 201 (dk_at dksX10_init_8 16 rfl rfl)
theorem dX10_init_205 : decode cX10_init 205 = .ok (.iinc 5 1, 3) := dk_132 5 1 (dk_at dksX10_init_8 19 rfl rfl)
theorem dX10_init_208 : decode cX10_init 208 = .ok (.goto (-122), 3) := dk_167 255 134 (dk_at dksX10_init_9 0 rfl rfl)
theorem dX10_init_211 : decode cX10_init 211 = .ok (.goto (-136), 3) := dk_167 255 120 (dk_at dksX10_init_9 3 rfl rfl)
theorem dX10_init_214 : decode cX10_init 214 = .ok (.iconst 0, 1) := dk_3 (dk_at dksX10_init_9 6 rfl rfl)
theorem dX10_init_215 : decode cX10_init 215 = .ok (.istore 5, 2) := dk_54 5 (dk_at dksX10_init_9 7 rfl rfl)
theorem dX10_init_217 : decode cX10_init 217 = .ok (.iload 5, 2) := dk_21 5 (dk_at dksX10_init_9 9 rfl rfl)
theorem dX10_init_219 : decode cX10_init 219 = .ok (.iconst 4, 1) := dk_7 (dk_at dksX10_init_9 11 rfl rfl)
theorem dX10_init_220 : decode cX10_init 220 = .ok (.if_icmp .ge 33, 3) := dk_162 0 33 (dk_at dksX10_init_9 12 rfl rfl)
theorem dX10_init_223 : decode cX10_init 223 = .ok (.aload_n 0, 1) := dk_42 (dk_at dksX10_init_9 15 rfl rfl)
theorem dX10_init_224 : decode cX10_init 224 = .ok (.getfield 12, 3) := dk_180 0 12 (dk_at dksX10_init_9 16 rfl rfl)
theorem dX10_init_227 : decode cX10_init 227 = .ok (.new 9, 3) := dk_187 0 9 (dk_at dksX10_init_9 19 rfl rfl)
theorem dX10_init_230 : decode cX10_init 230 = .ok (.dup, 1) := dk_89 (dk_at dksX10_init_9 22 rfl rfl)
theorem dX10_init_231 : decode cX10_init 231 = .ok (.aload_n 3, 1) := dk_45 (dk_at dksX10_init_9 23 rfl rfl)
theorem dX10_init_232 : decode cX10_init 232 = .ok (.iload 5, 2) := dk_21 5 (dk_at dksX10_init_10 0 rfl rfl)
theorem dX10_init_234 : decode cX10_init 234 = .ok (.invokevirtual 25, 3) := dk_182 0 25 (dk_at dksX10_init_10 2 rfl rfl)
theorem dX10_init_237 : decode cX10_init 237 = .ok (.checkcast 60, 3) := dk_192 0 60 (dk_at dksX10_init_10 5 rfl rfl)
theorem dX10_init_240 : decode cX10_init 240 = .ok (.invokespecial 62, 3) := dk_183 0 62 (dk_at dksX10_init_10 8 rfl rfl)
theorem dX10_init_243 : decode cX10_init 243 = .ok (.invokevirtual 21, 3) := dk_182 0 21 (dk_at dksX10_init_10 11 rfl rfl)
theorem dX10_init_246 : decode cX10_init 246 = .ok (.pop, 1) := dk_87 (dk_at dksX10_init_10 14 rfl rfl)
theorem dX10_init_247 : decode cX10_init 247 = .ok (.iinc 5 1, 3) := dk_132 5 1 (dk_at dksX10_init_10 15 rfl rfl)
theorem dX10_init_250 : decode cX10_init 250 = .ok (.goto (-33), 3) := dk_167 255 223 (dk_at dksX10_init_10 18 rfl rfl)
theorem dX10_init_253 : decode cX10_init 253 = .ok (.return_, 1) := dk_177 (dk_at dksX10_init_10 21 rfl rfl)
abbrev cX10_count : ByteArray := prog_5_method_2_code
def yX10_count : MethodName := ⟨RX10, "count", "(I)I"⟩
def dkwX10_count_0 : List UInt8 := [42, 180, 0, 12, 27, 182, 0, 25, 192, 0, 9, 182, 0, 40, 172]
abbrev dktX10_count_0 : List UInt8 := dkwX10_count_0 ++ []
theorem dksX10_count_0 : cX10_count.data.toList.drop 0 = dktX10_count_0 := by decide +kernel
theorem dX10_count_0 : decode cX10_count 0 = .ok (.aload_n 0, 1) := dk_42 (dk_at dksX10_count_0 0 rfl rfl)
theorem dX10_count_1 : decode cX10_count 1 = .ok (.getfield 12, 3) := dk_180 0 12 (dk_at dksX10_count_0 1 rfl rfl)
theorem dX10_count_4 : decode cX10_count 4 = .ok (.iload_n 1, 1) := dk_27 (dk_at dksX10_count_0 4 rfl rfl)
theorem dX10_count_5 : decode cX10_count 5 = .ok (.invokevirtual 25, 3) := dk_182 0 25 (dk_at dksX10_count_0 5 rfl rfl)
theorem dX10_count_8 : decode cX10_count 8 = .ok (.checkcast 9, 3) := dk_192 0 9 (dk_at dksX10_count_0 8 rfl rfl)
theorem dX10_count_11 : decode cX10_count 11 = .ok (.invokevirtual 40, 3) := dk_182 0 40 (dk_at dksX10_count_0 11 rfl rfl)
theorem dX10_count_14 : decode cX10_count 14 = .ok (.ireturn, 1) := dk_172 (dk_at dksX10_count_0 14 rfl rfl)
abbrev cX10_indexOf : ByteArray := prog_5_method_3_code
def yX10_indexOf : MethodName := ⟨RX10, "indexOf", "(ILPointerAnalyzer$Context;)I"⟩
def dkwX10_indexOf_1 : List UInt8 := [153, 0, 9, 132, 3, 1, 167, 255, 228, 29, 172]
abbrev dktX10_indexOf_1 : List UInt8 := dkwX10_indexOf_1 ++ []
def dkwX10_indexOf_0 : List UInt8 := [3, 62, 42, 180, 0, 12, 27, 182, 0, 25, 192, 0, 9, 29, 182, 0, 25, 192, 0, 29, 44, 182, 0, 81]
abbrev dktX10_indexOf_0 : List UInt8 := dkwX10_indexOf_0 ++ dktX10_indexOf_1
theorem dksX10_indexOf_0 : cX10_indexOf.data.toList.drop 0 = dktX10_indexOf_0 := by decide +kernel
theorem dksX10_indexOf_1 : cX10_indexOf.data.toList.drop 24 = dktX10_indexOf_1 := dk_seg dksX10_indexOf_0 24 rfl rfl
theorem dX10_indexOf_0 : decode cX10_indexOf 0 = .ok (.iconst 0, 1) := dk_3 (dk_at dksX10_indexOf_0 0 rfl rfl)
theorem dX10_indexOf_1 : decode cX10_indexOf 1 = .ok (.istore_n 3, 1) := dk_62 (dk_at dksX10_indexOf_0 1 rfl rfl)
theorem dX10_indexOf_2 : decode cX10_indexOf 2 = .ok (.aload_n 0, 1) := dk_42 (dk_at dksX10_indexOf_0 2 rfl rfl)
theorem dX10_indexOf_3 : decode cX10_indexOf 3 = .ok (.getfield 12, 3) := dk_180 0 12 (dk_at dksX10_indexOf_0 3 rfl rfl)
theorem dX10_indexOf_6 : decode cX10_indexOf 6 = .ok (.iload_n 1, 1) := dk_27 (dk_at dksX10_indexOf_0 6 rfl rfl)
theorem dX10_indexOf_7 : decode cX10_indexOf 7 = .ok (.invokevirtual 25, 3) := dk_182 0 25 (dk_at dksX10_indexOf_0 7 rfl rfl)
theorem dX10_indexOf_10 : decode cX10_indexOf 10 = .ok (.checkcast 9, 3) := dk_192 0 9 (dk_at dksX10_indexOf_0 10 rfl rfl)
theorem dX10_indexOf_13 : decode cX10_indexOf 13 = .ok (.iload_n 3, 1) := dk_29 (dk_at dksX10_indexOf_0 13 rfl rfl)
theorem dX10_indexOf_14 : decode cX10_indexOf 14 = .ok (.invokevirtual 25, 3) := dk_182 0 25 (dk_at dksX10_indexOf_0 14 rfl rfl)
theorem dX10_indexOf_17 : decode cX10_indexOf 17 = .ok (.checkcast 29, 3) := dk_192 0 29 (dk_at dksX10_indexOf_0 17 rfl rfl)
theorem dX10_indexOf_20 : decode cX10_indexOf 20 = .ok (.aload_n 2, 1) := dk_44 (dk_at dksX10_indexOf_0 20 rfl rfl)
theorem dX10_indexOf_21 : decode cX10_indexOf 21 = .ok (.invokevirtual 81, 3) := dk_182 0 81 (dk_at dksX10_indexOf_0 21 rfl rfl)
theorem dX10_indexOf_24 : decode cX10_indexOf 24 = .ok (.ifCond .eq 9, 3) := dk_153 0 9 (dk_at dksX10_indexOf_1 0 rfl rfl)
theorem dX10_indexOf_27 : decode cX10_indexOf 27 = .ok (.iinc 3 1, 3) := dk_132 3 1 (dk_at dksX10_indexOf_1 3 rfl rfl)
theorem dX10_indexOf_30 : decode cX10_indexOf 30 = .ok (.goto (-28), 3) := dk_167 255 228 (dk_at dksX10_indexOf_1 6 rfl rfl)
theorem dX10_indexOf_33 : decode cX10_indexOf 33 = .ok (.iload_n 3, 1) := dk_29 (dk_at dksX10_indexOf_1 9 rfl rfl)
theorem dX10_indexOf_34 : decode cX10_indexOf 34 = .ok (.ireturn, 1) := dk_172 (dk_at dksX10_indexOf_1 10 rfl rfl)
theorem q173 : (Jvm.Cond.initialized "PointerAnalyzer$Contexts") ∈ lw_all := lw_g (lw_at lw_m1 51 rfl) rfl
theorem q342 : (Jvm.Cond.selects "PointerAnalyzer$Contexts" ({ cls := "java/lang/Object", name := "getClass", desc := "()Ljava/lang/Class;" } : Jvm.MethodName) ({ cls := "java/lang/Object", name := "getClass", desc := "()Ljava/lang/Class;" } : Jvm.MethodName)) ∈ lw_all := lw_g (lw_at lw_m1 220 rfl) rfl
theorem q703 : (Jvm.Cond.fieldLinkNest "PointerAnalyzer$Contexts" (35 : Nat) "PointerAnalyzer$Program" "statements" "Ljava/util/ArrayList;" "PointerAnalyzer") ∈ lw_tbl := lw_at lw_m3 101 rfl
theorem q763 : (Jvm.Cond.selects "PointerAnalyzer$Contexts" ({ cls := "java/lang/Object", name := "equals", desc := "(Ljava/lang/Object;)Z" } : Jvm.MethodName) ({ cls := "java/lang/Object", name := "equals", desc := "(Ljava/lang/Object;)Z" } : Jvm.MethodName)) ∈ lw_all := lw_g (lw_at lw_m3 161 rfl) rfl
theorem q1172 : (Jvm.Cond.fieldLinkNest "PointerAnalyzer$Contexts" (74 : Nat) "PointerAnalyzer$Statement" "number" "I" "PointerAnalyzer") ∈ lw_tbl := lw_at lw_m5 90 rfl
theorem q1177 : (Jvm.Cond.fieldLinkNest "PointerAnalyzer$Contexts" (56 : Nat) "PointerAnalyzer$Statement" "function" "I" "PointerAnalyzer") ∈ lw_tbl := lw_at lw_m5 95 rfl
theorem q1182 : (Jvm.Cond.fieldLinkNest "PointerAnalyzer$Contexts" (65 : Nat) "PointerAnalyzer$Statement" "line" "LPointerAnalyzer$Line;" "PointerAnalyzer") ∈ lw_tbl := lw_at lw_m5 100 rfl
theorem q1355 : (Jvm.Cond.instantiable "PointerAnalyzer$Contexts" (1 : Nat)) ∈ lw_all := lw_g (lw_at lw_m6 33 rfl) rfl
theorem q1357 : (Jvm.Cond.instanceMethod ({ cls := "PointerAnalyzer$Contexts", name := "<init>", desc := "(LPointerAnalyzer$Program;I)V" } : Jvm.MethodName)) ∈ lw_all := lw_g (lw_at lw_m6 35 rfl) rfl
theorem q1358 : (Jvm.Cond.code ({ cls := "PointerAnalyzer$Contexts", name := "<init>", desc := "(LPointerAnalyzer$Program;I)V" } : Jvm.MethodName) prog_5_method_1_code (9 : Nat) (Option.none : Option Jvm.ClassFile.FieldType)) ∈ lw_all := lw_g (lw_at lw_m6 36 rfl) rfl
theorem q1359 : (Jvm.Cond.methodLink "PointerAnalyzer$Contexts" (3 : Nat) ({ cls := "java/lang/Object", name := "<init>", desc := "()V" } : Jvm.MethodName)) ∈ lw_all := lw_g (lw_at lw_m6 37 rfl) rfl
theorem q1360 : (Jvm.Cond.classLink "PointerAnalyzer$Contexts" (9 : Nat) "java/util/ArrayList") ∈ lw_all := lw_g (lw_at lw_m6 38 rfl) rfl
theorem q1361 : (Jvm.Cond.methodLink "PointerAnalyzer$Contexts" (11 : Nat) ({ cls := "java/util/ArrayList", name := "<init>", desc := "()V" } : Jvm.MethodName)) ∈ lw_all := lw_g (lw_at lw_m6 39 rfl) rfl
theorem q1362 : (Jvm.Cond.classLink "PointerAnalyzer$Contexts" (18 : Nat) "java/util/TreeSet") ∈ lw_all := lw_g (lw_at lw_m6 40 rfl) rfl
theorem q1364 : (Jvm.Cond.methodLink "PointerAnalyzer$Contexts" (20 : Nat) ({ cls := "java/util/TreeSet", name := "<init>", desc := "()V" } : Jvm.MethodName)) ∈ lw_all := lw_g (lw_at lw_m6 42 rfl) rfl
theorem q1377 : (Jvm.Cond.methodLink "PointerAnalyzer$Contexts" (21 : Nat) ({ cls := "java/util/ArrayList", name := "add", desc := "(Ljava/lang/Object;)Z" } : Jvm.MethodName)) ∈ lw_all := lw_g (lw_at lw_m6 55 rfl) rfl
theorem q1378 : (Jvm.Cond.methodLink "PointerAnalyzer$Contexts" (25 : Nat) ({ cls := "java/util/ArrayList", name := "get", desc := "(I)Ljava/lang/Object;" } : Jvm.MethodName)) ∈ lw_all := lw_g (lw_at lw_m6 56 rfl) rfl
theorem q1379 : (Jvm.Cond.classLink "PointerAnalyzer$Contexts" (29 : Nat) "PointerAnalyzer$Context") ∈ lw_all := lw_g (lw_at lw_m6 57 rfl) rfl
theorem q1381 : (Jvm.Cond.methodLink "PointerAnalyzer$Contexts" (31 : Nat) ({ cls := "PointerAnalyzer$Context", name := "<init>", desc := "([I)V" } : Jvm.MethodName)) ∈ lw_all := lw_g (lw_at lw_m6 59 rfl) rfl
theorem q1390 : (Jvm.Cond.methodLink "PointerAnalyzer$Contexts" (34 : Nat) ({ cls := "java/util/TreeSet", name := "add", desc := "(Ljava/lang/Object;)Z" } : Jvm.MethodName)) ∈ lw_all := lw_g (lw_at lw_m6 68 rfl) rfl
theorem q1402 : (Jvm.Cond.methodLink "PointerAnalyzer$Contexts" (40 : Nat) ({ cls := "java/util/ArrayList", name := "size", desc := "()I" } : Jvm.MethodName)) ∈ lw_all := lw_g (lw_at lw_m6 80 rfl) rfl
theorem q1403 : (Jvm.Cond.classLink "PointerAnalyzer$Contexts" (44 : Nat) "PointerAnalyzer$Statement") ∈ lw_all := lw_g (lw_at lw_m6 81 rfl) rfl
theorem q1404 : (Jvm.Cond.fieldLink "PointerAnalyzer$Contexts" (46 : Nat) "PointerAnalyzer$Kind" "CALL" "LPointerAnalyzer$Kind;") ∈ lw_all := lw_g (lw_at lw_m6 82 rfl) rfl
theorem q1406 : (Jvm.Cond.methodLink "PointerAnalyzer$Contexts" (52 : Nat) ({ cls := "PointerAnalyzer$Statement", name := "is", desc := "(LPointerAnalyzer$Kind;)Z" } : Jvm.MethodName)) ∈ lw_all := lw_g (lw_at lw_m6 84 rfl) rfl
theorem q1410 : (Jvm.Cond.classLink "PointerAnalyzer$Contexts" (60 : Nat) "java/util/Collection") ∈ lw_all := lw_g (lw_at lw_m6 88 rfl) rfl
theorem q1411 : (Jvm.Cond.methodLink "PointerAnalyzer$Contexts" (62 : Nat) ({ cls := "java/util/ArrayList", name := "<init>", desc := "(Ljava/util/Collection;)V" } : Jvm.MethodName)) ∈ lw_all := lw_g (lw_at lw_m6 89 rfl) rfl
theorem q1544 : (Jvm.Cond.methodLink "PointerAnalyzer$Contexts" (77 : Nat) ({ cls := "PointerAnalyzer$Context", name := "with", desc := "(II)LPointerAnalyzer$Context;" } : Jvm.MethodName)) ∈ lw_all := lw_g (lw_at lw_m6 222 rfl) rfl
theorem q1550 : (Jvm.Cond.fieldLink "PointerAnalyzer$Contexts" (12 : Nat) "PointerAnalyzer$Contexts" "sorted" "Ljava/util/ArrayList;") ∈ lw_all := lw_g (lw_at lw_m6 228 rfl) rfl
theorem q1553 : (Jvm.Cond.laysFinal "PointerAnalyzer$Contexts" "PointerAnalyzer$Contexts" "sorted" "Ljava/util/ArrayList;") ∈ lw_all := lw_g (lw_at lw_m6 231 rfl) rfl
theorem q1554 : (Jvm.Cond.soleField "PointerAnalyzer$Contexts" "sorted") ∈ lw_all := lw_g (lw_at lw_m6 232 rfl) rfl
theorem q1555 : (Jvm.Cond.superclass "PointerAnalyzer$Contexts" "java/lang/Object") ∈ lw_all := lw_g (lw_at lw_m6 233 rfl) rfl
theorem q1637 : (Jvm.Cond.instanceMethod ({ cls := "PointerAnalyzer$Contexts", name := "count", desc := "(I)I" } : Jvm.MethodName)) ∈ lw_all := lw_g (lw_at lw_m7 75 rfl) rfl
theorem q1638 : (Jvm.Cond.selects "PointerAnalyzer$Contexts" ({ cls := "PointerAnalyzer$Contexts", name := "count", desc := "(I)I" } : Jvm.MethodName) ({ cls := "PointerAnalyzer$Contexts", name := "count", desc := "(I)I" } : Jvm.MethodName)) ∈ lw_all := lw_g (lw_at lw_m7 76 rfl) rfl
theorem q1639 : (Jvm.Cond.code ({ cls := "PointerAnalyzer$Contexts", name := "count", desc := "(I)I" } : Jvm.MethodName) prog_5_method_2_code (2 : Nat) (Option.some Jvm.ClassFile.FieldType.int)) ∈ lw_all := lw_g (lw_at lw_m7 77 rfl) rfl
theorem q1934 : (Jvm.Cond.instanceMethod ({ cls := "PointerAnalyzer$Contexts", name := "indexOf", desc := "(ILPointerAnalyzer$Context;)I" } : Jvm.MethodName)) ∈ lw_all := lw_g (lw_at lw_m8 132 rfl) rfl
theorem q1935 : (Jvm.Cond.selects "PointerAnalyzer$Contexts" ({ cls := "PointerAnalyzer$Contexts", name := "indexOf", desc := "(ILPointerAnalyzer$Context;)I" } : Jvm.MethodName) ({ cls := "PointerAnalyzer$Contexts", name := "indexOf", desc := "(ILPointerAnalyzer$Context;)I" } : Jvm.MethodName)) ∈ lw_all := lw_g (lw_at lw_m8 133 rfl) rfl
theorem q1936 : (Jvm.Cond.code ({ cls := "PointerAnalyzer$Contexts", name := "indexOf", desc := "(ILPointerAnalyzer$Context;)I" } : Jvm.MethodName) prog_5_method_3_code (4 : Nat) (Option.some Jvm.ClassFile.FieldType.int)) ∈ lw_all := lw_g (lw_at lw_m8 134 rfl) rfl
theorem q1937 : (Jvm.Cond.methodLink "PointerAnalyzer$Contexts" (81 : Nat) ({ cls := "PointerAnalyzer$Context", name := "compareTo", desc := "(LPointerAnalyzer$Context;)I" } : Jvm.MethodName)) ∈ lw_all := lw_g (lw_at lw_m8 135 rfl) rfl
theorem q2612 : (Jvm.Cond.fieldLinkNest "PointerAnalyzer$Contexts" (69 : Nat) "PointerAnalyzer$Line" "extra" "I" "PointerAnalyzer") ∈ lw_tbl := lw_at lw_m11 90 rfl
theorem q3486 : (Jvm.Cond.castable "PointerAnalyzer$Contexts" "java/lang/Object") ∈ lw_tbl := lw_at lw_m15 4 rfl
theorem in_X10 : ∀ w ∈ wsX100, w ∈ lw_all := lw_in wsX100 [1553] (by decide +kernel) (by decide +kernel)

/-! PointerAnalyzer$Context -/
set_option maxRecDepth 100000
def RX11 : String := "PointerAnalyzer$Context"
def TX11 : u_T := fun k => match k with
  | _ => ("PointerAnalyzer$Context", "calls", "[I", true)
def tyX11 : Nat → FieldType := fun k => match k with
  | _ => .array .int
abbrev wsX110 : List Cond := u_ws RX11 TX11 1
theorem nmX11 : ∀ a, a < 1 → ∀ b, b < 1 → a ≠ b → (TX11 a).2.1 ≠ (TX11 b).2.1 := by decide +kernel
theorem tyX11_ok : ∀ k, k < 1 → parseFieldDescriptor (TX11 k).2.2.1 = some (tyX11 k) := by decide +kernel
abbrev cX11_compareTo : ByteArray := prog_4_method_6_code
def yX11_compareTo : MethodName := ⟨RX11, "compareTo", "(Ljava/lang/Object;)I"⟩
def dkwX11_compareTo_0 : List UInt8 := [42, 43, 192, 0, 8, 182, 0, 27, 172]
abbrev dktX11_compareTo_0 : List UInt8 := dkwX11_compareTo_0 ++ []
theorem dksX11_compareTo_0 : cX11_compareTo.data.toList.drop 0 = dktX11_compareTo_0 := by decide +kernel
theorem dX11_compareTo_0 : decode cX11_compareTo 0 = .ok (.aload_n 0, 1) := dk_42 (dk_at dksX11_compareTo_0 0 rfl rfl)
theorem dX11_compareTo_1 : decode cX11_compareTo 1 = .ok (.aload_n 1, 1) := dk_43 (dk_at dksX11_compareTo_0 1 rfl rfl)
theorem dX11_compareTo_2 : decode cX11_compareTo 2 = .ok (.checkcast 8, 3) := dk_192 0 8 (dk_at dksX11_compareTo_0 2 rfl rfl)
theorem dX11_compareTo_5 : decode cX11_compareTo 5 = .ok (.invokevirtual 27, 3) := dk_182 0 27 (dk_at dksX11_compareTo_0 5 rfl rfl)
theorem dX11_compareTo_8 : decode cX11_compareTo 8 = .ok (.ireturn, 1) := dk_172 (dk_at dksX11_compareTo_0 8 rfl rfl)
abbrev cX11_compareTo_2 : ByteArray := prog_4_method_3_code
def yX11_compareTo_2 : MethodName := ⟨RX11, "compareTo", "(LPointerAnalyzer$Context;)I"⟩
def dkwX11_compareTo_2_2 : List UInt8 := [132, 3, 1, 167, 255, 224, 28, 172]
abbrev dktX11_compareTo_2_2 : List UInt8 := dkwX11_compareTo_2_2 ++ []
def dkwX11_compareTo_2_1 : List UInt8 := [162, 0, 29, 28, 154, 0, 25, 42, 180, 0, 7, 29, 46, 43, 180, 0, 7, 29, 46, 184, 0, 22, 61]
abbrev dktX11_compareTo_2_1 : List UInt8 := dkwX11_compareTo_2_1 ++ dktX11_compareTo_2_2
def dkwX11_compareTo_2_0 : List UInt8 := [42, 180, 0, 7, 190, 43, 180, 0, 7, 190, 184, 0, 22, 61, 3, 62, 29, 42, 180, 0, 7, 190]
abbrev dktX11_compareTo_2_0 : List UInt8 := dkwX11_compareTo_2_0 ++ dktX11_compareTo_2_1
theorem dksX11_compareTo_2_0 : cX11_compareTo_2.data.toList.drop 0 = dktX11_compareTo_2_0 := by decide +kernel
theorem dksX11_compareTo_2_1 : cX11_compareTo_2.data.toList.drop 22 = dktX11_compareTo_2_1 := dk_seg dksX11_compareTo_2_0 22 rfl rfl
theorem dksX11_compareTo_2_2 : cX11_compareTo_2.data.toList.drop 45 = dktX11_compareTo_2_2 := dk_seg dksX11_compareTo_2_1 23 rfl rfl
theorem dX11_compareTo_2_0 : decode cX11_compareTo_2 0 = .ok (.aload_n 0, 1) := dk_42 (dk_at dksX11_compareTo_2_0 0 rfl rfl)
theorem dX11_compareTo_2_1 : decode cX11_compareTo_2 1 = .ok (.getfield 7, 3) := dk_180 0 7 (dk_at dksX11_compareTo_2_0 1 rfl rfl)
theorem dX11_compareTo_2_4 : decode cX11_compareTo_2 4 = .ok (.arraylength, 1) := dk_190 (dk_at dksX11_compareTo_2_0 4 rfl rfl)
theorem dX11_compareTo_2_5 : decode cX11_compareTo_2 5 = .ok (.aload_n 1, 1) := dk_43 (dk_at dksX11_compareTo_2_0 5 rfl rfl)
theorem dX11_compareTo_2_6 : decode cX11_compareTo_2 6 = .ok (.getfield 7, 3) := dk_180 0 7 (dk_at dksX11_compareTo_2_0 6 rfl rfl)
theorem dX11_compareTo_2_9 : decode cX11_compareTo_2 9 = .ok (.arraylength, 1) := dk_190 (dk_at dksX11_compareTo_2_0 9 rfl rfl)
theorem dX11_compareTo_2_10 : decode cX11_compareTo_2 10 = .ok (.invokestatic 22, 3) := dk_184 0 22 (dk_at dksX11_compareTo_2_0 10 rfl rfl)
theorem dX11_compareTo_2_13 : decode cX11_compareTo_2 13 = .ok (.istore_n 2, 1) := dk_61 (dk_at dksX11_compareTo_2_0 13 rfl rfl)
theorem dX11_compareTo_2_14 : decode cX11_compareTo_2 14 = .ok (.iconst 0, 1) := dk_3 (dk_at dksX11_compareTo_2_0 14 rfl rfl)
theorem dX11_compareTo_2_15 : decode cX11_compareTo_2 15 = .ok (.istore_n 3, 1) := dk_62 (dk_at dksX11_compareTo_2_0 15 rfl rfl)
theorem dX11_compareTo_2_16 : decode cX11_compareTo_2 16 = .ok (.iload_n 3, 1) := dk_29 (dk_at dksX11_compareTo_2_0 16 rfl rfl)
theorem dX11_compareTo_2_17 : decode cX11_compareTo_2 17 = .ok (.aload_n 0, 1) := dk_42 (dk_at dksX11_compareTo_2_0 17 rfl rfl)
theorem dX11_compareTo_2_18 : decode cX11_compareTo_2 18 = .ok (.getfield 7, 3) := dk_180 0 7 (dk_at dksX11_compareTo_2_0 18 rfl rfl)
theorem dX11_compareTo_2_21 : decode cX11_compareTo_2 21 = .ok (.arraylength, 1) := dk_190 (dk_at dksX11_compareTo_2_0 21 rfl rfl)
theorem dX11_compareTo_2_22 : decode cX11_compareTo_2 22 = .ok (.if_icmp .ge 29, 3) := dk_162 0 29 (dk_at dksX11_compareTo_2_1 0 rfl rfl)
theorem dX11_compareTo_2_25 : decode cX11_compareTo_2 25 = .ok (.iload_n 2, 1) := dk_28 (dk_at dksX11_compareTo_2_1 3 rfl rfl)
theorem dX11_compareTo_2_26 : decode cX11_compareTo_2 26 = .ok (.ifCond .ne 25, 3) := dk_154 0 25 (dk_at dksX11_compareTo_2_1 4 rfl rfl)
theorem dX11_compareTo_2_29 : decode cX11_compareTo_2 29 = .ok (.aload_n 0, 1) := dk_42 (dk_at dksX11_compareTo_2_1 7 rfl rfl)
theorem dX11_compareTo_2_30 : decode cX11_compareTo_2 30 = .ok (.getfield 7, 3) := dk_180 0 7 (dk_at dksX11_compareTo_2_1 8 rfl rfl)
theorem dX11_compareTo_2_33 : decode cX11_compareTo_2 33 = .ok (.iload_n 3, 1) := dk_29 (dk_at dksX11_compareTo_2_1 11 rfl rfl)
theorem dX11_compareTo_2_34 : decode cX11_compareTo_2 34 = .ok (.iaload, 1) := dk_46 (dk_at dksX11_compareTo_2_1 12 rfl rfl)
theorem dX11_compareTo_2_35 : decode cX11_compareTo_2 35 = .ok (.aload_n 1, 1) := dk_43 (dk_at dksX11_compareTo_2_1 13 rfl rfl)
theorem dX11_compareTo_2_36 : decode cX11_compareTo_2 36 = .ok (.getfield 7, 3) := dk_180 0 7 (dk_at dksX11_compareTo_2_1 14 rfl rfl)
theorem dX11_compareTo_2_39 : decode cX11_compareTo_2 39 = .ok (.iload_n 3, 1) := dk_29 (dk_at dksX11_compareTo_2_1 17 rfl rfl)
theorem dX11_compareTo_2_40 : decode cX11_compareTo_2 40 = .ok (.iaload, 1) := dk_46 (dk_at dksX11_compareTo_2_1 18 rfl rfl)
theorem dX11_compareTo_2_41 : decode cX11_compareTo_2 41 = .ok (.invokestatic 22, 3) := dk_184 0 22 (dk_at dksX11_compareTo_2_1 19 rfl rfl)
theorem dX11_compareTo_2_44 : decode cX11_compareTo_2 44 = .ok (.istore_n 2, 1) := dk_61 (dk_at dksX11_compareTo_2_1 22 rfl rfl)
theorem dX11_compareTo_2_45 : decode cX11_compareTo_2 45 = .ok (.iinc 3 1, 3) := dk_132 3 1 (dk_at dksX11_compareTo_2_2 0 rfl rfl)
theorem dX11_compareTo_2_48 : decode cX11_compareTo_2 48 = .ok (.goto (-32), 3) := dk_167 255 224 (dk_at dksX11_compareTo_2_2 3 rfl rfl)
theorem dX11_compareTo_2_51 : decode cX11_compareTo_2 51 = .ok (.iload_n 2, 1) := dk_28 (dk_at dksX11_compareTo_2_2 6 rfl rfl)
theorem dX11_compareTo_2_52 : decode cX11_compareTo_2 52 = .ok (.ireturn, 1) := dk_172 (dk_at dksX11_compareTo_2_2 7 rfl rfl)
abbrev cX11_init : ByteArray := prog_4_method_1_code
def yX11_init : MethodName := ⟨RX11, "<init>", "([I)V"⟩
def dkwX11_init_0 : List UInt8 := [42, 183, 0, 1, 42, 43, 181, 0, 7, 177]
abbrev dktX11_init_0 : List UInt8 := dkwX11_init_0 ++ []
theorem dksX11_init_0 : cX11_init.data.toList.drop 0 = dktX11_init_0 := by decide +kernel
theorem dX11_init_0 : decode cX11_init 0 = .ok (.aload_n 0, 1) := dk_42 (dk_at dksX11_init_0 0 rfl rfl)
theorem dX11_init_1 : decode cX11_init 1 = .ok (.invokespecial 1, 3) := dk_183 0 1 (dk_at dksX11_init_0 1 rfl rfl)
theorem dX11_init_4 : decode cX11_init 4 = .ok (.aload_n 0, 1) := dk_42 (dk_at dksX11_init_0 4 rfl rfl)
theorem dX11_init_5 : decode cX11_init 5 = .ok (.aload_n 1, 1) := dk_43 (dk_at dksX11_init_0 5 rfl rfl)
theorem dX11_init_6 : decode cX11_init 6 = .ok (.putfield 7, 3) := dk_181 0 7 (dk_at dksX11_init_0 6 rfl rfl)
theorem dX11_init_9 : decode cX11_init 9 = .ok (.return_, 1) := dk_177 (dk_at dksX11_init_0 9 rfl rfl)
abbrev cX11_with : ByteArray := prog_4_method_2_code
def yX11_with : MethodName := ⟨RX11, "with", "(II)LPointerAnalyzer$Context;"⟩
def dkwX11_with_3 : List UInt8 := [167, 255, 207, 187, 0, 8, 89, 25, 4, 183, 0, 19, 176]
abbrev dktX11_with_3 : List UInt8 := dkwX11_with_3 ++ []
def dkwX11_with_2 : List UInt8 := [180, 0, 7, 190, 162, 0, 13, 42, 180, 0, 7, 21, 6, 46, 167, 0, 4, 27, 79, 132, 5, 1]
abbrev dktX11_with_2 : List UInt8 := dkwX11_with_2 ++ dktX11_with_3
def dkwX11_with_1 : List UInt8 := [162, 0, 49, 42, 180, 0, 7, 190, 4, 96, 29, 100, 21, 5, 96, 54, 6, 25, 4, 21, 5, 21, 6, 42]
abbrev dktX11_with_1 : List UInt8 := dkwX11_with_1 ++ dktX11_with_2
def dkwX11_with_0 : List UInt8 := [42, 180, 0, 7, 190, 4, 96, 28, 184, 0, 13, 62, 29, 188, 10, 58, 4, 3, 54, 5, 21, 5, 29]
abbrev dktX11_with_0 : List UInt8 := dkwX11_with_0 ++ dktX11_with_1
theorem dksX11_with_0 : cX11_with.data.toList.drop 0 = dktX11_with_0 := by decide +kernel
theorem dksX11_with_1 : cX11_with.data.toList.drop 23 = dktX11_with_1 := dk_seg dksX11_with_0 23 rfl rfl
theorem dksX11_with_2 : cX11_with.data.toList.drop 47 = dktX11_with_2 := dk_seg dksX11_with_1 24 rfl rfl
theorem dksX11_with_3 : cX11_with.data.toList.drop 69 = dktX11_with_3 := dk_seg dksX11_with_2 22 rfl rfl
theorem dX11_with_0 : decode cX11_with 0 = .ok (.aload_n 0, 1) := dk_42 (dk_at dksX11_with_0 0 rfl rfl)
theorem dX11_with_1 : decode cX11_with 1 = .ok (.getfield 7, 3) := dk_180 0 7 (dk_at dksX11_with_0 1 rfl rfl)
theorem dX11_with_4 : decode cX11_with 4 = .ok (.arraylength, 1) := dk_190 (dk_at dksX11_with_0 4 rfl rfl)
theorem dX11_with_5 : decode cX11_with 5 = .ok (.iconst 1, 1) := dk_4 (dk_at dksX11_with_0 5 rfl rfl)
theorem dX11_with_6 : decode cX11_with 6 = .ok (.iadd, 1) := dk_96 (dk_at dksX11_with_0 6 rfl rfl)
theorem dX11_with_7 : decode cX11_with 7 = .ok (.iload_n 2, 1) := dk_28 (dk_at dksX11_with_0 7 rfl rfl)
theorem dX11_with_8 : decode cX11_with 8 = .ok (.invokestatic 13, 3) := dk_184 0 13 (dk_at dksX11_with_0 8 rfl rfl)
theorem dX11_with_11 : decode cX11_with 11 = .ok (.istore_n 3, 1) := dk_62 (dk_at dksX11_with_0 11 rfl rfl)
theorem dX11_with_12 : decode cX11_with 12 = .ok (.iload_n 3, 1) := dk_29 (dk_at dksX11_with_0 12 rfl rfl)
theorem dX11_with_13 : decode cX11_with 13 = .ok (.newarray .int, 2) := dk_188_10 (dk_at dksX11_with_0 13 rfl rfl)
theorem dX11_with_15 : decode cX11_with 15 = .ok (.astore 4, 2) := dk_58 4 (dk_at dksX11_with_0 15 rfl rfl)
theorem dX11_with_17 : decode cX11_with 17 = .ok (.iconst 0, 1) := dk_3 (dk_at dksX11_with_0 17 rfl rfl)
theorem dX11_with_18 : decode cX11_with 18 = .ok (.istore 5, 2) := dk_54 5 (dk_at dksX11_with_0 18 rfl rfl)
theorem dX11_with_20 : decode cX11_with 20 = .ok (.iload 5, 2) := dk_21 5 (dk_at dksX11_with_0 20 rfl rfl)
theorem dX11_with_22 : decode cX11_with 22 = .ok (.iload_n 3, 1) := dk_29 (dk_at dksX11_with_0 22 rfl rfl)
theorem dX11_with_23 : decode cX11_with 23 = .ok (.if_icmp .ge 49, 3) := dk_162 0 49 (dk_at dksX11_with_1 0 rfl rfl)
theorem dX11_with_26 : decode cX11_with 26 = .ok (.aload_n 0, 1) := dk_42 (dk_at dksX11_with_1 3 rfl rfl)
theorem dX11_with_27 : decode cX11_with 27 = .ok (.getfield 7, 3) := dk_180 0 7 (dk_at dksX11_with_1 4 rfl rfl)
theorem dX11_with_30 : decode cX11_with 30 = .ok (.arraylength, 1) := dk_190 (dk_at dksX11_with_1 7 rfl rfl)
theorem dX11_with_31 : decode cX11_with 31 = .ok (.iconst 1, 1) := dk_4 (dk_at dksX11_with_1 8 rfl rfl)
theorem dX11_with_32 : decode cX11_with 32 = .ok (.iadd, 1) := dk_96 (dk_at dksX11_with_1 9 rfl rfl)
theorem dX11_with_33 : decode cX11_with 33 = .ok (.iload_n 3, 1) := dk_29 (dk_at dksX11_with_1 10 rfl rfl)
theorem dX11_with_34 : decode cX11_with 34 = .ok (.isub, 1) := dk_100 (dk_at dksX11_with_1 11 rfl rfl)
theorem dX11_with_35 : decode cX11_with 35 = .ok (.iload 5, 2) := dk_21 5 (dk_at dksX11_with_1 12 rfl rfl)
theorem dX11_with_37 : decode cX11_with 37 = .ok (.iadd, 1) := dk_96 (dk_at dksX11_with_1 14 rfl rfl)
theorem dX11_with_38 : decode cX11_with 38 = .ok (.istore 6, 2) := dk_54 6 (dk_at dksX11_with_1 15 rfl rfl)
theorem dX11_with_40 : decode cX11_with 40 = .ok (.aload 4, 2) := dk_25 4 (dk_at dksX11_with_1 17 rfl rfl)
theorem dX11_with_42 : decode cX11_with 42 = .ok (.iload 5, 2) := dk_21 5 (dk_at dksX11_with_1 19 rfl rfl)
theorem dX11_with_44 : decode cX11_with 44 = .ok (.iload 6, 2) := dk_21 6 (dk_at dksX11_with_1 21 rfl rfl)
theorem dX11_with_46 : decode cX11_with 46 = .ok (.aload_n 0, 1) := dk_42 (dk_at dksX11_with_1 23 rfl rfl)
theorem dX11_with_47 : decode cX11_with 47 = .ok (.getfield 7, 3) := dk_180 0 7 (dk_at dksX11_with_2 0 rfl rfl)
theorem dX11_with_50 : decode cX11_with 50 = .ok (.arraylength, 1) := dk_190 (dk_at dksX11_with_2 3 rfl rfl)
theorem dX11_with_51 : decode cX11_with 51 = .ok (.if_icmp .ge 13, 3) := dk_162 0 13 (dk_at dksX11_with_2 4 rfl rfl)
theorem dX11_with_54 : decode cX11_with 54 = .ok (.aload_n 0, 1) := dk_42 (dk_at dksX11_with_2 7 rfl rfl)
theorem dX11_with_55 : decode cX11_with 55 = .ok (.getfield 7, 3) := dk_180 0 7 (dk_at dksX11_with_2 8 rfl rfl)
theorem dX11_with_58 : decode cX11_with 58 = .ok (.iload 6, 2) := dk_21 6 (dk_at dksX11_with_2 11 rfl rfl)
theorem dX11_with_60 : decode cX11_with 60 = .ok (.iaload, 1) := dk_46 (dk_at dksX11_with_2 13 rfl rfl)
theorem dX11_with_61 : decode cX11_with 61 = .ok (.goto 4, 3) := dk_167 0 4 (dk_at dksX11_with_2 14 rfl rfl)
theorem dX11_with_64 : decode cX11_with 64 = .ok (.iload_n 1, 1) := dk_27 (dk_at dksX11_with_2 17 rfl rfl)
theorem dX11_with_65 : decode cX11_with 65 = .ok (.iastore, 1) := dk_79 (dk_at dksX11_with_2 18 rfl rfl)
theorem dX11_with_66 : decode cX11_with 66 = .ok (.iinc 5 1, 3) := dk_132 5 1 (dk_at dksX11_with_2 19 rfl rfl)
theorem dX11_with_69 : decode cX11_with 69 = .ok (.goto (-49), 3) := dk_167 255 207 (dk_at dksX11_with_3 0 rfl rfl)
theorem dX11_with_72 : decode cX11_with 72 = .ok (.new 8, 3) := dk_187 0 8 (dk_at dksX11_with_3 3 rfl rfl)
theorem dX11_with_75 : decode cX11_with 75 = .ok (.dup, 1) := dk_89 (dk_at dksX11_with_3 6 rfl rfl)
theorem dX11_with_76 : decode cX11_with 76 = .ok (.aload 4, 2) := dk_25 4 (dk_at dksX11_with_3 7 rfl rfl)
theorem dX11_with_78 : decode cX11_with 78 = .ok (.invokespecial 19, 3) := dk_183 0 19 (dk_at dksX11_with_3 9 rfl rfl)
theorem dX11_with_81 : decode cX11_with 81 = .ok (.areturn, 1) := dk_176 (dk_at dksX11_with_3 12 rfl rfl)
theorem q175 : (Jvm.Cond.initialized "PointerAnalyzer$Context") ∈ lw_all := lw_g (lw_at lw_m1 53 rfl) rfl
theorem q309 : (Jvm.Cond.castable "PointerAnalyzer$Context" "java/lang/Comparable") ∈ lw_tbl := lw_at lw_m1 187 rfl
theorem q310 : (Jvm.Cond.selects "PointerAnalyzer$Context" ({ cls := "java/lang/Comparable", name := "compareTo", desc := "(Ljava/lang/Object;)I" } : Jvm.MethodName) ({ cls := "PointerAnalyzer$Context", name := "compareTo", desc := "(Ljava/lang/Object;)I" } : Jvm.MethodName)) ∈ lw_all := lw_g (lw_at lw_m1 188 rfl) rfl
theorem q311 : (Jvm.Cond.unhidden "PointerAnalyzer$Context" "compareTo" "(Ljava/lang/Object;)I") ∈ lw_tbl := lw_at lw_m1 189 rfl
theorem q312 : (Jvm.Cond.instanceMethod ({ cls := "PointerAnalyzer$Context", name := "compareTo", desc := "(Ljava/lang/Object;)I" } : Jvm.MethodName)) ∈ lw_all := lw_g (lw_at lw_m1 190 rfl) rfl
theorem q313 : (Jvm.Cond.publicMethod ({ cls := "PointerAnalyzer$Context", name := "compareTo", desc := "(Ljava/lang/Object;)I" } : Jvm.MethodName)) ∈ lw_tbl := lw_at lw_m1 191 rfl
theorem q314 : (Jvm.Cond.code ({ cls := "PointerAnalyzer$Context", name := "compareTo", desc := "(Ljava/lang/Object;)I" } : Jvm.MethodName) prog_4_method_6_code (2 : Nat) (Option.some Jvm.ClassFile.FieldType.int)) ∈ lw_all := lw_g (lw_at lw_m1 192 rfl) rfl
theorem q315 : (Jvm.Cond.classLink "PointerAnalyzer$Context" (8 : Nat) "PointerAnalyzer$Context") ∈ lw_all := lw_g (lw_at lw_m1 193 rfl) rfl
theorem q316 : (Jvm.Cond.methodLink "PointerAnalyzer$Context" (27 : Nat) ({ cls := "PointerAnalyzer$Context", name := "compareTo", desc := "(LPointerAnalyzer$Context;)I" } : Jvm.MethodName)) ∈ lw_all := lw_g (lw_at lw_m1 194 rfl) rfl
theorem q317 : (Jvm.Cond.instanceMethod ({ cls := "PointerAnalyzer$Context", name := "compareTo", desc := "(LPointerAnalyzer$Context;)I" } : Jvm.MethodName)) ∈ lw_all := lw_g (lw_at lw_m1 195 rfl) rfl
theorem q318 : (Jvm.Cond.selects "PointerAnalyzer$Context" ({ cls := "PointerAnalyzer$Context", name := "compareTo", desc := "(LPointerAnalyzer$Context;)I" } : Jvm.MethodName) ({ cls := "PointerAnalyzer$Context", name := "compareTo", desc := "(LPointerAnalyzer$Context;)I" } : Jvm.MethodName)) ∈ lw_all := lw_g (lw_at lw_m1 196 rfl) rfl
theorem q319 : (Jvm.Cond.code ({ cls := "PointerAnalyzer$Context", name := "compareTo", desc := "(LPointerAnalyzer$Context;)I" } : Jvm.MethodName) prog_4_method_3_code (4 : Nat) (Option.some Jvm.ClassFile.FieldType.int)) ∈ lw_all := lw_g (lw_at lw_m1 197 rfl) rfl
theorem q320 : (Jvm.Cond.methodLink "PointerAnalyzer$Context" (22 : Nat) ({ cls := "java/lang/Integer", name := "compare", desc := "(II)I" } : Jvm.MethodName)) ∈ lw_all := lw_g (lw_at lw_m1 198 rfl) rfl
theorem q341 : (Jvm.Cond.selects "PointerAnalyzer$Context" ({ cls := "java/lang/Object", name := "getClass", desc := "()Ljava/lang/Class;" } : Jvm.MethodName) ({ cls := "java/lang/Object", name := "getClass", desc := "()Ljava/lang/Class;" } : Jvm.MethodName)) ∈ lw_all := lw_g (lw_at lw_m1 219 rfl) rfl
theorem q760 : (Jvm.Cond.selects "PointerAnalyzer$Context" ({ cls := "java/lang/Object", name := "equals", desc := "(Ljava/lang/Object;)Z" } : Jvm.MethodName) ({ cls := "PointerAnalyzer$Context", name := "equals", desc := "(Ljava/lang/Object;)Z" } : Jvm.MethodName)) ∈ lw_all := lw_g (lw_at lw_m3 158 rfl) rfl
theorem q761 : (Jvm.Cond.instanceMethod ({ cls := "PointerAnalyzer$Context", name := "equals", desc := "(Ljava/lang/Object;)Z" } : Jvm.MethodName)) ∈ lw_all := lw_g (lw_at lw_m3 159 rfl) rfl
theorem q762 : (Jvm.Cond.code ({ cls := "PointerAnalyzer$Context", name := "equals", desc := "(Ljava/lang/Object;)Z" } : Jvm.MethodName) prog_4_method_4_code (2 : Nat) (Option.some Jvm.ClassFile.FieldType.boolean)) ∈ lw_all := lw_g (lw_at lw_m3 160 rfl) rfl
theorem q1380 : (Jvm.Cond.instantiable "PointerAnalyzer$Context" (1 : Nat)) ∈ lw_all := lw_g (lw_at lw_m6 58 rfl) rfl
theorem q1382 : (Jvm.Cond.instanceMethod ({ cls := "PointerAnalyzer$Context", name := "<init>", desc := "([I)V" } : Jvm.MethodName)) ∈ lw_all := lw_g (lw_at lw_m6 60 rfl) rfl
theorem q1383 : (Jvm.Cond.code ({ cls := "PointerAnalyzer$Context", name := "<init>", desc := "([I)V" } : Jvm.MethodName) prog_4_method_1_code (2 : Nat) (Option.none : Option Jvm.ClassFile.FieldType)) ∈ lw_all := lw_g (lw_at lw_m6 61 rfl) rfl
theorem q1384 : (Jvm.Cond.methodLink "PointerAnalyzer$Context" (1 : Nat) ({ cls := "java/lang/Object", name := "<init>", desc := "()V" } : Jvm.MethodName)) ∈ lw_all := lw_g (lw_at lw_m6 62 rfl) rfl
theorem q1385 : (Jvm.Cond.fieldLink "PointerAnalyzer$Context" (7 : Nat) "PointerAnalyzer$Context" "calls" "[I") ∈ lw_all := lw_g (lw_at lw_m6 63 rfl) rfl
theorem q1387 : (Jvm.Cond.laysFinal "PointerAnalyzer$Context" "PointerAnalyzer$Context" "calls" "[I") ∈ lw_all := lw_g (lw_at lw_m6 65 rfl) rfl
theorem q1388 : (Jvm.Cond.soleField "PointerAnalyzer$Context" "calls") ∈ lw_all := lw_g (lw_at lw_m6 66 rfl) rfl
theorem q1389 : (Jvm.Cond.superclass "PointerAnalyzer$Context" "java/lang/Object") ∈ lw_all := lw_g (lw_at lw_m6 67 rfl) rfl
theorem q1545 : (Jvm.Cond.instanceMethod ({ cls := "PointerAnalyzer$Context", name := "with", desc := "(II)LPointerAnalyzer$Context;" } : Jvm.MethodName)) ∈ lw_all := lw_g (lw_at lw_m6 223 rfl) rfl
theorem q1546 : (Jvm.Cond.selects "PointerAnalyzer$Context" ({ cls := "PointerAnalyzer$Context", name := "with", desc := "(II)LPointerAnalyzer$Context;" } : Jvm.MethodName) ({ cls := "PointerAnalyzer$Context", name := "with", desc := "(II)LPointerAnalyzer$Context;" } : Jvm.MethodName)) ∈ lw_all := lw_g (lw_at lw_m6 224 rfl) rfl
theorem q1547 : (Jvm.Cond.code ({ cls := "PointerAnalyzer$Context", name := "with", desc := "(II)LPointerAnalyzer$Context;" } : Jvm.MethodName) prog_4_method_2_code (7 : Nat) (Option.some (Jvm.ClassFile.FieldType.object "PointerAnalyzer$Context"))) ∈ lw_all := lw_g (lw_at lw_m6 225 rfl) rfl
theorem q1548 : (Jvm.Cond.methodLink "PointerAnalyzer$Context" (13 : Nat) ({ cls := "java/lang/Math", name := "min", desc := "(II)I" } : Jvm.MethodName)) ∈ lw_all := lw_g (lw_at lw_m6 226 rfl) rfl
theorem q1549 : (Jvm.Cond.methodLink "PointerAnalyzer$Context" (19 : Nat) ({ cls := "PointerAnalyzer$Context", name := "<init>", desc := "([I)V" } : Jvm.MethodName)) ∈ lw_all := lw_g (lw_at lw_m6 227 rfl) rfl
theorem q3488 : (Jvm.Cond.castable "PointerAnalyzer$Context" "java/lang/Object") ∈ lw_tbl := lw_at lw_m15 6 rfl
theorem in_X11 : ∀ w ∈ wsX110, w ∈ lw_all := lw_in wsX110 [1387] (by decide +kernel) (by decide +kernel)

/-! PointerAnalyzer$Cell -/
set_option maxRecDepth 100000
def RX12 : String := "PointerAnalyzer$Cell"
def TX12 : u_T := fun k => match k with
  | 0 => ("PointerAnalyzer$Cell", "number", "I", true)
  | 1 => ("PointerAnalyzer$Cell", "code", "I", true)
  | 2 => ("PointerAnalyzer$Cell", "shared", "LPointerAnalyzer$Cell;", false)
  | 3 => ("PointerAnalyzer$Cell", "targets", "Ljava/util/BitSet;", true)
  | 4 => ("PointerAnalyzer$Cell", "edges", "Ljava/util/BitSet;", true)
  | 5 => ("PointerAnalyzer$Cell", "loads", "Ljava/util/ArrayList;", true)
  | 6 => ("PointerAnalyzer$Cell", "stores", "Ljava/util/ArrayList;", true)
  | 7 => ("PointerAnalyzer$Cell", "shifts", "Ljava/util/ArrayList;", true)
  | _ => ("PointerAnalyzer$Cell", "isWaiting", "Z", false)
def tyX12 : Nat → FieldType := fun k => match k with
  | 0 => .int
  | 1 => .int
  | 2 => .object "PointerAnalyzer$Cell"
  | 3 => .object "java/util/BitSet"
  | 4 => .object "java/util/BitSet"
  | 5 => .object "java/util/ArrayList"
  | 6 => .object "java/util/ArrayList"
  | 7 => .object "java/util/ArrayList"
  | _ => .boolean
abbrev wsX120 : List Cond := u_ws RX12 TX12 9
theorem nmX12 : ∀ a, a < 9 → ∀ b, b < 9 → a ≠ b → (TX12 a).2.1 ≠ (TX12 b).2.1 := by decide +kernel
theorem tyX12_ok : ∀ k, k < 9 → parseFieldDescriptor (TX12 k).2.2.1 = some (tyX12 k) := by decide +kernel
abbrev cX12_init : ByteArray := prog_3_method_1_code
def yX12_init : MethodName := ⟨RX12, "<init>", "(II)V"⟩
def dkwX12_init_3 : List UInt8 := [42, 42, 181, 0, 39, 177]
abbrev dktX12_init_3 : List UInt8 := dkwX12_init_3 ++ []
def dkwX12_init_2 : List UInt8 := [181, 0, 26, 42, 187, 0, 19, 89, 183, 0, 21, 181, 0, 29, 42, 27, 181, 0, 32, 42, 28, 181, 0, 36]
abbrev dktX12_init_2 : List UInt8 := dkwX12_init_2 ++ dktX12_init_3
def dkwX12_init_1 : List UInt8 := [181, 0, 16, 42, 187, 0, 19, 89, 183, 0, 21, 181, 0, 22, 42, 187, 0, 19, 89, 183, 0, 21]
abbrev dktX12_init_1 : List UInt8 := dkwX12_init_1 ++ dktX12_init_2
def dkwX12_init_0 : List UInt8 := [42, 183, 0, 1, 42, 187, 0, 7, 89, 183, 0, 9, 181, 0, 10, 42, 187, 0, 7, 89, 183, 0, 9]
abbrev dktX12_init_0 : List UInt8 := dkwX12_init_0 ++ dktX12_init_1
theorem dksX12_init_0 : cX12_init.data.toList.drop 0 = dktX12_init_0 := by decide +kernel
theorem dksX12_init_1 : cX12_init.data.toList.drop 23 = dktX12_init_1 := dk_seg dksX12_init_0 23 rfl rfl
theorem dksX12_init_2 : cX12_init.data.toList.drop 45 = dktX12_init_2 := dk_seg dksX12_init_1 22 rfl rfl
theorem dksX12_init_3 : cX12_init.data.toList.drop 69 = dktX12_init_3 := dk_seg dksX12_init_2 24 rfl rfl
theorem dX12_init_0 : decode cX12_init 0 = .ok (.aload_n 0, 1) := dk_42 (dk_at dksX12_init_0 0 rfl rfl)
theorem dX12_init_1 : decode cX12_init 1 = .ok (.invokespecial 1, 3) := dk_183 0 1 (dk_at dksX12_init_0 1 rfl rfl)
theorem dX12_init_4 : decode cX12_init 4 = .ok (.aload_n 0, 1) := dk_42 (dk_at dksX12_init_0 4 rfl rfl)
theorem dX12_init_5 : decode cX12_init 5 = .ok (.new 7, 3) := dk_187 0 7 (dk_at dksX12_init_0 5 rfl rfl)
theorem dX12_init_8 : decode cX12_init 8 = .ok (.dup, 1) := dk_89 (dk_at dksX12_init_0 8 rfl rfl)
theorem dX12_init_9 : decode cX12_init 9 = .ok (.invokespecial 9, 3) := dk_183 0 9 (dk_at dksX12_init_0 9 rfl rfl)
theorem dX12_init_12 : decode cX12_init 12 = .ok (.putfield 10, 3) := dk_181 0 10 (dk_at dksX12_init_0 12 rfl rfl)
theorem dX12_init_15 : decode cX12_init 15 = .ok (.aload_n 0, 1) := dk_42 (dk_at dksX12_init_0 15 rfl rfl)
theorem dX12_init_16 : decode cX12_init 16 = .ok (.new 7, 3) := dk_187 0 7 (dk_at dksX12_init_0 16 rfl rfl)
theorem dX12_init_19 : decode cX12_init 19 = .ok (.dup, 1) := dk_89 (dk_at dksX12_init_0 19 rfl rfl)
theorem dX12_init_20 : decode cX12_init 20 = .ok (.invokespecial 9, 3) := dk_183 0 9 (dk_at dksX12_init_0 20 rfl rfl)
theorem dX12_init_23 : decode cX12_init 23 = .ok (.putfield 16, 3) := dk_181 0 16 (dk_at dksX12_init_1 0 rfl rfl)
theorem dX12_init_26 : decode cX12_init 26 = .ok (.aload_n 0, 1) := dk_42 (dk_at dksX12_init_1 3 rfl rfl)
theorem dX12_init_27 : decode cX12_init 27 = .ok (.new 19, 3) := dk_187 0 19 (dk_at dksX12_init_1 4 rfl rfl)
theorem dX12_init_30 : decode cX12_init 30 = .ok (.dup, 1) := dk_89 (dk_at dksX12_init_1 7 rfl rfl)
theorem dX12_init_31 : decode cX12_init 31 = .ok (.invokespecial 21, 3) := dk_183 0 21 (dk_at dksX12_init_1 8 rfl rfl)
theorem dX12_init_34 : decode cX12_init 34 = .ok (.putfield 22, 3) := dk_181 0 22 (dk_at dksX12_init_1 11 rfl rfl)
theorem dX12_init_37 : decode cX12_init 37 = .ok (.aload_n 0, 1) := dk_42 (dk_at dksX12_init_1 14 rfl rfl)
theorem dX12_init_38 : decode cX12_init 38 = .ok (.new 19, 3) := dk_187 0 19 (dk_at dksX12_init_1 15 rfl rfl)
theorem dX12_init_41 : decode cX12_init 41 = .ok (.dup, 1) := dk_89 (dk_at dksX12_init_1 18 rfl rfl)
theorem dX12_init_42 : decode cX12_init 42 = .ok (.invokespecial 21, 3) := dk_183 0 21 (dk_at dksX12_init_1 19 rfl rfl)
theorem dX12_init_45 : decode cX12_init 45 = .ok (.putfield 26, 3) := dk_181 0 26 (dk_at dksX12_init_2 0 rfl rfl)
theorem dX12_init_48 : decode cX12_init 48 = .ok (.aload_n 0, 1) := dk_42 (dk_at dksX12_init_2 3 rfl rfl)
theorem dX12_init_49 : decode cX12_init 49 = .ok (.new 19, 3) := dk_187 0 19 (dk_at dksX12_init_2 4 rfl rfl)
theorem dX12_init_52 : decode cX12_init 52 = .ok (.dup, 1) := dk_89 (dk_at dksX12_init_2 7 rfl rfl)
theorem dX12_init_53 : decode cX12_init 53 = .ok (.invokespecial 21, 3) := dk_183 0 21 (dk_at dksX12_init_2 8 rfl rfl)
theorem dX12_init_56 : decode cX12_init 56 = .ok (.putfield 29, 3) := dk_181 0 29 (dk_at dksX12_init_2 11 rfl rfl)
theorem dX12_init_59 : decode cX12_init 59 = .ok (.aload_n 0, 1) := dk_42 (dk_at dksX12_init_2 14 rfl rfl)
theorem dX12_init_60 : decode cX12_init 60 = .ok (.iload_n 1, 1) := dk_27 (dk_at dksX12_init_2 15 rfl rfl)
theorem dX12_init_61 : decode cX12_init 61 = .ok (.putfield 32, 3) := dk_181 0 32 (dk_at dksX12_init_2 16 rfl rfl)
theorem dX12_init_64 : decode cX12_init 64 = .ok (.aload_n 0, 1) := dk_42 (dk_at dksX12_init_2 19 rfl rfl)
theorem dX12_init_65 : decode cX12_init 65 = .ok (.iload_n 2, 1) := dk_28 (dk_at dksX12_init_2 20 rfl rfl)
theorem dX12_init_66 : decode cX12_init 66 = .ok (.putfield 36, 3) := dk_181 0 36 (dk_at dksX12_init_2 21 rfl rfl)
theorem dX12_init_69 : decode cX12_init 69 = .ok (.aload_n 0, 1) := dk_42 (dk_at dksX12_init_3 0 rfl rfl)
theorem dX12_init_70 : decode cX12_init 70 = .ok (.aload_n 0, 1) := dk_42 (dk_at dksX12_init_3 1 rfl rfl)
theorem dX12_init_71 : decode cX12_init 71 = .ok (.putfield 39, 3) := dk_181 0 39 (dk_at dksX12_init_3 2 rfl rfl)
theorem dX12_init_74 : decode cX12_init 74 = .ok (.return_, 1) := dk_177 (dk_at dksX12_init_3 5 rfl rfl)
abbrev cX12_find : ByteArray := prog_3_method_2_code
def yX12_find : MethodName := ⟨RX12, "find", "()LPointerAnalyzer$Cell;"⟩
def dkwX12_find_0 : List UInt8 := [42, 76, 43, 180, 0, 39, 43, 165, 0, 11, 43, 180, 0, 39, 76, 167, 255, 243, 43, 176]
abbrev dktX12_find_0 : List UInt8 := dkwX12_find_0 ++ []
theorem dksX12_find_0 : cX12_find.data.toList.drop 0 = dktX12_find_0 := by decide +kernel
theorem dX12_find_0 : decode cX12_find 0 = .ok (.aload_n 0, 1) := dk_42 (dk_at dksX12_find_0 0 rfl rfl)
theorem dX12_find_1 : decode cX12_find 1 = .ok (.astore_n 1, 1) := dk_76 (dk_at dksX12_find_0 1 rfl rfl)
theorem dX12_find_2 : decode cX12_find 2 = .ok (.aload_n 1, 1) := dk_43 (dk_at dksX12_find_0 2 rfl rfl)
theorem dX12_find_3 : decode cX12_find 3 = .ok (.getfield 39, 3) := dk_180 0 39 (dk_at dksX12_find_0 3 rfl rfl)
theorem dX12_find_6 : decode cX12_find 6 = .ok (.aload_n 1, 1) := dk_43 (dk_at dksX12_find_0 6 rfl rfl)
theorem dX12_find_7 : decode cX12_find 7 = .ok (.if_acmp .eq 11, 3) := dk_165 0 11 (dk_at dksX12_find_0 7 rfl rfl)
theorem dX12_find_10 : decode cX12_find 10 = .ok (.aload_n 1, 1) := dk_43 (dk_at dksX12_find_0 10 rfl rfl)
theorem dX12_find_11 : decode cX12_find 11 = .ok (.getfield 39, 3) := dk_180 0 39 (dk_at dksX12_find_0 11 rfl rfl)
theorem dX12_find_14 : decode cX12_find 14 = .ok (.astore_n 1, 1) := dk_76 (dk_at dksX12_find_0 14 rfl rfl)
theorem dX12_find_15 : decode cX12_find 15 = .ok (.goto (-13), 3) := dk_167 255 243 (dk_at dksX12_find_0 15 rfl rfl)
theorem dX12_find_18 : decode cX12_find 18 = .ok (.aload_n 1, 1) := dk_43 (dk_at dksX12_find_0 18 rfl rfl)
theorem dX12_find_19 : decode cX12_find 19 = .ok (.areturn, 1) := dk_176 (dk_at dksX12_find_0 19 rfl rfl)
theorem q178 : (Jvm.Cond.initialized "PointerAnalyzer$Cell") ∈ lw_all := lw_g (lw_at lw_m1 56 rfl) rfl
theorem q340 : (Jvm.Cond.selects "PointerAnalyzer$Cell" ({ cls := "java/lang/Object", name := "getClass", desc := "()Ljava/lang/Class;" } : Jvm.MethodName) ({ cls := "java/lang/Object", name := "getClass", desc := "()Ljava/lang/Class;" } : Jvm.MethodName)) ∈ lw_all := lw_g (lw_at lw_m1 218 rfl) rfl
theorem q759 : (Jvm.Cond.selects "PointerAnalyzer$Cell" ({ cls := "java/lang/Object", name := "equals", desc := "(Ljava/lang/Object;)Z" } : Jvm.MethodName) ({ cls := "java/lang/Object", name := "equals", desc := "(Ljava/lang/Object;)Z" } : Jvm.MethodName)) ∈ lw_all := lw_g (lw_at lw_m3 157 rfl) rfl
theorem q1565 : (Jvm.Cond.instantiable "PointerAnalyzer$Cell" (9 : Nat)) ∈ lw_all := lw_g (lw_at lw_m7 3 rfl) rfl
theorem q1568 : (Jvm.Cond.instanceMethod ({ cls := "PointerAnalyzer$Cell", name := "<init>", desc := "(II)V" } : Jvm.MethodName)) ∈ lw_all := lw_g (lw_at lw_m7 6 rfl) rfl
theorem q1569 : (Jvm.Cond.code ({ cls := "PointerAnalyzer$Cell", name := "<init>", desc := "(II)V" } : Jvm.MethodName) prog_3_method_1_code (3 : Nat) (Option.none : Option Jvm.ClassFile.FieldType)) ∈ lw_all := lw_g (lw_at lw_m7 7 rfl) rfl
theorem q1570 : (Jvm.Cond.methodLink "PointerAnalyzer$Cell" (1 : Nat) ({ cls := "java/lang/Object", name := "<init>", desc := "()V" } : Jvm.MethodName)) ∈ lw_all := lw_g (lw_at lw_m7 8 rfl) rfl
theorem q1571 : (Jvm.Cond.classLink "PointerAnalyzer$Cell" (7 : Nat) "java/util/BitSet") ∈ lw_all := lw_g (lw_at lw_m7 9 rfl) rfl
theorem q1573 : (Jvm.Cond.methodLink "PointerAnalyzer$Cell" (9 : Nat) ({ cls := "java/util/BitSet", name := "<init>", desc := "()V" } : Jvm.MethodName)) ∈ lw_all := lw_g (lw_at lw_m7 11 rfl) rfl
theorem q1595 : (Jvm.Cond.classLink "PointerAnalyzer$Cell" (19 : Nat) "java/util/ArrayList") ∈ lw_all := lw_g (lw_at lw_m7 33 rfl) rfl
theorem q1596 : (Jvm.Cond.methodLink "PointerAnalyzer$Cell" (21 : Nat) ({ cls := "java/util/ArrayList", name := "<init>", desc := "()V" } : Jvm.MethodName)) ∈ lw_all := lw_g (lw_at lw_m7 34 rfl) rfl
theorem q1597 : (Jvm.Cond.fieldLink "PointerAnalyzer$Cell" (32 : Nat) "PointerAnalyzer$Cell" "number" "I") ∈ lw_all := lw_g (lw_at lw_m7 35 rfl) rfl
theorem q1600 : (Jvm.Cond.fieldLink "PointerAnalyzer$Cell" (36 : Nat) "PointerAnalyzer$Cell" "code" "I") ∈ lw_all := lw_g (lw_at lw_m7 38 rfl) rfl
theorem q1602 : (Jvm.Cond.fieldLink "PointerAnalyzer$Cell" (39 : Nat) "PointerAnalyzer$Cell" "shared" "LPointerAnalyzer$Cell;") ∈ lw_all := lw_g (lw_at lw_m7 40 rfl) rfl
theorem q1604 : (Jvm.Cond.fieldLink "PointerAnalyzer$Cell" (10 : Nat) "PointerAnalyzer$Cell" "targets" "Ljava/util/BitSet;") ∈ lw_all := lw_g (lw_at lw_m7 42 rfl) rfl
theorem q1607 : (Jvm.Cond.fieldLink "PointerAnalyzer$Cell" (16 : Nat) "PointerAnalyzer$Cell" "edges" "Ljava/util/BitSet;") ∈ lw_all := lw_g (lw_at lw_m7 45 rfl) rfl
theorem q1609 : (Jvm.Cond.fieldLink "PointerAnalyzer$Cell" (22 : Nat) "PointerAnalyzer$Cell" "loads" "Ljava/util/ArrayList;") ∈ lw_all := lw_g (lw_at lw_m7 47 rfl) rfl
theorem q1611 : (Jvm.Cond.fieldLink "PointerAnalyzer$Cell" (26 : Nat) "PointerAnalyzer$Cell" "stores" "Ljava/util/ArrayList;") ∈ lw_all := lw_g (lw_at lw_m7 49 rfl) rfl
theorem q1613 : (Jvm.Cond.fieldLink "PointerAnalyzer$Cell" (29 : Nat) "PointerAnalyzer$Cell" "shifts" "Ljava/util/ArrayList;") ∈ lw_all := lw_g (lw_at lw_m7 51 rfl) rfl
theorem q1616 : (Jvm.Cond.laysFinal "PointerAnalyzer$Cell" "PointerAnalyzer$Cell" "number" "I") ∈ lw_all := lw_g (lw_at lw_m7 54 rfl) rfl
theorem q1617 : (Jvm.Cond.soleField "PointerAnalyzer$Cell" "number") ∈ lw_all := lw_g (lw_at lw_m7 55 rfl) rfl
theorem q1618 : (Jvm.Cond.laysFinal "PointerAnalyzer$Cell" "PointerAnalyzer$Cell" "code" "I") ∈ lw_all := lw_g (lw_at lw_m7 56 rfl) rfl
theorem q1619 : (Jvm.Cond.soleField "PointerAnalyzer$Cell" "code") ∈ lw_all := lw_g (lw_at lw_m7 57 rfl) rfl
theorem q1620 : (Jvm.Cond.lays "PointerAnalyzer$Cell" "PointerAnalyzer$Cell" "shared" "LPointerAnalyzer$Cell;") ∈ lw_all := lw_g (lw_at lw_m7 58 rfl) rfl
theorem q1621 : (Jvm.Cond.soleField "PointerAnalyzer$Cell" "shared") ∈ lw_all := lw_g (lw_at lw_m7 59 rfl) rfl
theorem q1622 : (Jvm.Cond.laysFinal "PointerAnalyzer$Cell" "PointerAnalyzer$Cell" "targets" "Ljava/util/BitSet;") ∈ lw_all := lw_g (lw_at lw_m7 60 rfl) rfl
theorem q1623 : (Jvm.Cond.soleField "PointerAnalyzer$Cell" "targets") ∈ lw_all := lw_g (lw_at lw_m7 61 rfl) rfl
theorem q1624 : (Jvm.Cond.laysFinal "PointerAnalyzer$Cell" "PointerAnalyzer$Cell" "edges" "Ljava/util/BitSet;") ∈ lw_all := lw_g (lw_at lw_m7 62 rfl) rfl
theorem q1625 : (Jvm.Cond.soleField "PointerAnalyzer$Cell" "edges") ∈ lw_all := lw_g (lw_at lw_m7 63 rfl) rfl
theorem q1626 : (Jvm.Cond.laysFinal "PointerAnalyzer$Cell" "PointerAnalyzer$Cell" "loads" "Ljava/util/ArrayList;") ∈ lw_all := lw_g (lw_at lw_m7 64 rfl) rfl
theorem q1627 : (Jvm.Cond.soleField "PointerAnalyzer$Cell" "loads") ∈ lw_all := lw_g (lw_at lw_m7 65 rfl) rfl
theorem q1628 : (Jvm.Cond.laysFinal "PointerAnalyzer$Cell" "PointerAnalyzer$Cell" "stores" "Ljava/util/ArrayList;") ∈ lw_all := lw_g (lw_at lw_m7 66 rfl) rfl
theorem q1629 : (Jvm.Cond.soleField "PointerAnalyzer$Cell" "stores") ∈ lw_all := lw_g (lw_at lw_m7 67 rfl) rfl
theorem q1630 : (Jvm.Cond.laysFinal "PointerAnalyzer$Cell" "PointerAnalyzer$Cell" "shifts" "Ljava/util/ArrayList;") ∈ lw_all := lw_g (lw_at lw_m7 68 rfl) rfl
theorem q1631 : (Jvm.Cond.soleField "PointerAnalyzer$Cell" "shifts") ∈ lw_all := lw_g (lw_at lw_m7 69 rfl) rfl
theorem q1632 : (Jvm.Cond.lays "PointerAnalyzer$Cell" "PointerAnalyzer$Cell" "isWaiting" "Z") ∈ lw_all := lw_g (lw_at lw_m7 70 rfl) rfl
theorem q1633 : (Jvm.Cond.soleField "PointerAnalyzer$Cell" "isWaiting") ∈ lw_all := lw_g (lw_at lw_m7 71 rfl) rfl
theorem q1634 : (Jvm.Cond.superclass "PointerAnalyzer$Cell" "java/lang/Object") ∈ lw_all := lw_g (lw_at lw_m7 72 rfl) rfl
theorem q1995 : (Jvm.Cond.instanceMethod ({ cls := "PointerAnalyzer$Cell", name := "find", desc := "()LPointerAnalyzer$Cell;" } : Jvm.MethodName)) ∈ lw_all := lw_g (lw_at lw_m8 193 rfl) rfl
theorem q1996 : (Jvm.Cond.selects "PointerAnalyzer$Cell" ({ cls := "PointerAnalyzer$Cell", name := "find", desc := "()LPointerAnalyzer$Cell;" } : Jvm.MethodName) ({ cls := "PointerAnalyzer$Cell", name := "find", desc := "()LPointerAnalyzer$Cell;" } : Jvm.MethodName)) ∈ lw_all := lw_g (lw_at lw_m8 194 rfl) rfl
theorem q1997 : (Jvm.Cond.code ({ cls := "PointerAnalyzer$Cell", name := "find", desc := "()LPointerAnalyzer$Cell;" } : Jvm.MethodName) prog_3_method_2_code (2 : Nat) (Option.some (Jvm.ClassFile.FieldType.object "PointerAnalyzer$Cell"))) ∈ lw_all := lw_g (lw_at lw_m8 195 rfl) rfl
theorem q3493 : (Jvm.Cond.castable "PointerAnalyzer$Cell" "java/lang/Object") ∈ lw_tbl := lw_at lw_m15 11 rfl
theorem in_X12 : ∀ w ∈ wsX120, w ∈ lw_all := lw_in wsX120 [1616, 1618, 1620, 1622, 1624, 1626, 1628, 1630, 1632] (by decide +kernel) (by decide +kernel)

/-! PointerAnalyzer$Shift -/
set_option maxRecDepth 100000
def RX13 : String := "PointerAnalyzer$Shift"
def TX13 : u_T := fun k => match k with
  | 0 => ("PointerAnalyzer$Shift", "to", "LPointerAnalyzer$Cell;", true)
  | _ => ("PointerAnalyzer$Shift", "by", "I", true)
def tyX13 : Nat → FieldType := fun k => match k with
  | 0 => .object "PointerAnalyzer$Cell"
  | _ => .int
abbrev wsX130 : List Cond := u_ws RX13 TX13 2
theorem nmX13 : ∀ a, a < 2 → ∀ b, b < 2 → a ≠ b → (TX13 a).2.1 ≠ (TX13 b).2.1 := by decide +kernel
theorem tyX13_ok : ∀ k, k < 2 → parseFieldDescriptor (TX13 k).2.2.1 = some (tyX13 k) := by decide +kernel
abbrev cX13_init : ByteArray := prog_16_method_1_code
def yX13_init : MethodName := ⟨RX13, "<init>", "(LPointerAnalyzer$Cell;I)V"⟩
def dkwX13_init_0 : List UInt8 := [42, 183, 0, 1, 42, 43, 181, 0, 7, 42, 28, 181, 0, 13, 177]
abbrev dktX13_init_0 : List UInt8 := dkwX13_init_0 ++ []
theorem dksX13_init_0 : cX13_init.data.toList.drop 0 = dktX13_init_0 := by decide +kernel
theorem dX13_init_0 : decode cX13_init 0 = .ok (.aload_n 0, 1) := dk_42 (dk_at dksX13_init_0 0 rfl rfl)
theorem dX13_init_1 : decode cX13_init 1 = .ok (.invokespecial 1, 3) := dk_183 0 1 (dk_at dksX13_init_0 1 rfl rfl)
theorem dX13_init_4 : decode cX13_init 4 = .ok (.aload_n 0, 1) := dk_42 (dk_at dksX13_init_0 4 rfl rfl)
theorem dX13_init_5 : decode cX13_init 5 = .ok (.aload_n 1, 1) := dk_43 (dk_at dksX13_init_0 5 rfl rfl)
theorem dX13_init_6 : decode cX13_init 6 = .ok (.putfield 7, 3) := dk_181 0 7 (dk_at dksX13_init_0 6 rfl rfl)
theorem dX13_init_9 : decode cX13_init 9 = .ok (.aload_n 0, 1) := dk_42 (dk_at dksX13_init_0 9 rfl rfl)
theorem dX13_init_10 : decode cX13_init 10 = .ok (.iload_n 2, 1) := dk_28 (dk_at dksX13_init_0 10 rfl rfl)
theorem dX13_init_11 : decode cX13_init 11 = .ok (.putfield 13, 3) := dk_181 0 13 (dk_at dksX13_init_0 11 rfl rfl)
theorem dX13_init_14 : decode cX13_init 14 = .ok (.return_, 1) := dk_177 (dk_at dksX13_init_0 14 rfl rfl)
theorem q182 : (Jvm.Cond.initialized "PointerAnalyzer$Shift") ∈ lw_all := lw_g (lw_at lw_m1 60 rfl) rfl
theorem q353 : (Jvm.Cond.selects "PointerAnalyzer$Shift" ({ cls := "java/lang/Object", name := "getClass", desc := "()Ljava/lang/Class;" } : Jvm.MethodName) ({ cls := "java/lang/Object", name := "getClass", desc := "()Ljava/lang/Class;" } : Jvm.MethodName)) ∈ lw_all := lw_g (lw_at lw_m1 231 rfl) rfl
theorem q776 : (Jvm.Cond.selects "PointerAnalyzer$Shift" ({ cls := "java/lang/Object", name := "equals", desc := "(Ljava/lang/Object;)Z" } : Jvm.MethodName) ({ cls := "java/lang/Object", name := "equals", desc := "(Ljava/lang/Object;)Z" } : Jvm.MethodName)) ∈ lw_all := lw_g (lw_at lw_m3 174 rfl) rfl
theorem q1917 : (Jvm.Cond.instantiable "PointerAnalyzer$Shift" (2 : Nat)) ∈ lw_all := lw_g (lw_at lw_m8 115 rfl) rfl
theorem q1919 : (Jvm.Cond.instanceMethod ({ cls := "PointerAnalyzer$Shift", name := "<init>", desc := "(LPointerAnalyzer$Cell;I)V" } : Jvm.MethodName)) ∈ lw_all := lw_g (lw_at lw_m8 117 rfl) rfl
theorem q1920 : (Jvm.Cond.code ({ cls := "PointerAnalyzer$Shift", name := "<init>", desc := "(LPointerAnalyzer$Cell;I)V" } : Jvm.MethodName) prog_16_method_1_code (3 : Nat) (Option.none : Option Jvm.ClassFile.FieldType)) ∈ lw_all := lw_g (lw_at lw_m8 118 rfl) rfl
theorem q1921 : (Jvm.Cond.methodLink "PointerAnalyzer$Shift" (1 : Nat) ({ cls := "java/lang/Object", name := "<init>", desc := "()V" } : Jvm.MethodName)) ∈ lw_all := lw_g (lw_at lw_m8 119 rfl) rfl
theorem q1922 : (Jvm.Cond.fieldLink "PointerAnalyzer$Shift" (7 : Nat) "PointerAnalyzer$Shift" "to" "LPointerAnalyzer$Cell;") ∈ lw_all := lw_g (lw_at lw_m8 120 rfl) rfl
theorem q1924 : (Jvm.Cond.fieldLink "PointerAnalyzer$Shift" (13 : Nat) "PointerAnalyzer$Shift" "by" "I") ∈ lw_all := lw_g (lw_at lw_m8 122 rfl) rfl
theorem q1926 : (Jvm.Cond.laysFinal "PointerAnalyzer$Shift" "PointerAnalyzer$Shift" "to" "LPointerAnalyzer$Cell;") ∈ lw_all := lw_g (lw_at lw_m8 124 rfl) rfl
theorem q1927 : (Jvm.Cond.soleField "PointerAnalyzer$Shift" "to") ∈ lw_all := lw_g (lw_at lw_m8 125 rfl) rfl
theorem q1928 : (Jvm.Cond.laysFinal "PointerAnalyzer$Shift" "PointerAnalyzer$Shift" "by" "I") ∈ lw_all := lw_g (lw_at lw_m8 126 rfl) rfl
theorem q1929 : (Jvm.Cond.soleField "PointerAnalyzer$Shift" "by") ∈ lw_all := lw_g (lw_at lw_m8 127 rfl) rfl
theorem q1930 : (Jvm.Cond.superclass "PointerAnalyzer$Shift" "java/lang/Object") ∈ lw_all := lw_g (lw_at lw_m8 128 rfl) rfl
theorem q3496 : (Jvm.Cond.castable "PointerAnalyzer$Shift" "java/lang/Object") ∈ lw_tbl := lw_at lw_m15 14 rfl
theorem in_X13 : ∀ w ∈ wsX130, w ∈ lw_all := lw_in wsX130 [1926, 1928] (by decide +kernel) (by decide +kernel)

/-! PointerAnalyzer$Ranks -/
set_option maxRecDepth 100000
def RX14 : String := "PointerAnalyzer$Ranks"
def TX14 : u_T := fun k => match k with
  | 0 => ("PointerAnalyzer$Ranks", "now", "[J", false)
  | 1 => ("PointerAnalyzer$Ranks", "next", "[J", false)
  | 2 => ("PointerAnalyzer$Ranks", "ranks", "[[I", true)
  | 3 => ("PointerAnalyzer$Ranks", "reasons", "[[I", true)
  | 4 => ("PointerAnalyzer$Ranks", "round", "I", false)
  | _ => ("PointerAnalyzer$Ranks", "statement", "I", false)
def tyX14 : Nat → FieldType := fun k => match k with
  | 0 => .array .long
  | 1 => .array .long
  | 2 => .array (.array .int)
  | 3 => .array (.array .int)
  | 4 => .int
  | _ => .int
abbrev wsX140 : List Cond := u_ws RX14 TX14 6
theorem nmX14 : ∀ a, a < 6 → ∀ b, b < 6 → a ≠ b → (TX14 a).2.1 ≠ (TX14 b).2.1 := by decide +kernel
theorem tyX14_ok : ∀ k, k < 6 → parseFieldDescriptor (TX14 k).2.2.1 = some (tyX14 k) := by decide +kernel
abbrev cX14_init : ByteArray := prog_13_method_1_code
def yX14_init : MethodName := ⟨RX14, "<init>", "(LPointerAnalyzer$Program;[Z)V"⟩
def dkwX14_init_8 : List UInt8 := [177]
abbrev dktX14_init_8 : List UInt8 := dkwX14_init_8 ++ []
def dkwX14_init_7 : List UInt8 := [167, 255, 220, 42, 42, 180, 0, 28, 181, 0, 9, 167, 255, 119, 42, 89, 180, 0, 31, 4, 100, 181, 0, 31]
abbrev dktX14_init_7 : List UInt8 := dkwX14_init_7 ++ dktX14_init_8
def dkwX14_init_6 : List UInt8 := [21, 4, 47, 42, 180, 0, 9, 21, 4, 47, 148, 153, 0, 7, 4, 167, 0, 4, 3, 128, 62, 132, 4, 1]
abbrev dktX14_init_6 : List UInt8 := dkwX14_init_6 ++ dktX14_init_7
def dkwX14_init_5 : List UInt8 := [182, 0, 59, 132, 4, 1, 167, 255, 205, 3, 54, 4, 21, 4, 16, 44, 162, 0, 35, 29, 42, 180, 0, 28]
abbrev dktX14_init_5 : List UInt8 := dkwX14_init_5 ++ dktX14_init_6
def dkwX14_init_4 : List UInt8 := [192, 0, 51, 58, 5, 44, 25, 5, 180, 0, 53, 51, 153, 0, 15, 42, 21, 4, 181, 0, 56, 42, 25, 5]
abbrev dktX14_init_4 : List UInt8 := dkwX14_init_4 ++ dktX14_init_5
def dkwX14_init_3 : List UInt8 := [54, 4, 21, 4, 43, 180, 0, 35, 182, 0, 41, 162, 0, 45, 43, 180, 0, 35, 21, 4, 182, 0, 47]
abbrev dktX14_init_3 : List UInt8 := dkwX14_init_3 ++ dktX14_init_4
def dkwX14_init_2 : List UInt8 := [180, 0, 9, 182, 0, 23, 192, 0, 24, 181, 0, 28, 42, 89, 180, 0, 31, 4, 96, 181, 0, 31, 3]
abbrev dktX14_init_2 : List UInt8 := dkwX14_init_2 ++ dktX14_init_3
def dkwX14_init_1 : List UInt8 := [42, 16, 44, 16, 44, 197, 0, 15, 2, 181, 0, 20, 4, 62, 29, 153, 0, 139, 3, 62, 42, 42]
abbrev dktX14_init_1 : List UInt8 := dkwX14_init_1 ++ dktX14_init_2
def dkwX14_init_0 : List UInt8 := [42, 183, 0, 3, 42, 16, 44, 188, 11, 181, 0, 9, 42, 16, 44, 16, 44, 197, 0, 15, 2, 181, 0, 17]
abbrev dktX14_init_0 : List UInt8 := dkwX14_init_0 ++ dktX14_init_1
theorem dksX14_init_0 : cX14_init.data.toList.drop 0 = dktX14_init_0 := by decide +kernel
theorem dksX14_init_1 : cX14_init.data.toList.drop 24 = dktX14_init_1 := dk_seg dksX14_init_0 24 rfl rfl
theorem dksX14_init_2 : cX14_init.data.toList.drop 46 = dktX14_init_2 := dk_seg dksX14_init_1 22 rfl rfl
theorem dksX14_init_3 : cX14_init.data.toList.drop 69 = dktX14_init_3 := dk_seg dksX14_init_2 23 rfl rfl
theorem dksX14_init_4 : cX14_init.data.toList.drop 92 = dktX14_init_4 := dk_seg dksX14_init_3 23 rfl rfl
theorem dksX14_init_5 : cX14_init.data.toList.drop 116 = dktX14_init_5 := dk_seg dksX14_init_4 24 rfl rfl
theorem dksX14_init_6 : cX14_init.data.toList.drop 140 = dktX14_init_6 := dk_seg dksX14_init_5 24 rfl rfl
theorem dksX14_init_7 : cX14_init.data.toList.drop 164 = dktX14_init_7 := dk_seg dksX14_init_6 24 rfl rfl
theorem dksX14_init_8 : cX14_init.data.toList.drop 188 = dktX14_init_8 := dk_seg dksX14_init_7 24 rfl rfl
theorem dX14_init_0 : decode cX14_init 0 = .ok (.aload_n 0, 1) := dk_42 (dk_at dksX14_init_0 0 rfl rfl)
theorem dX14_init_1 : decode cX14_init 1 = .ok (.invokespecial 3, 3) := dk_183 0 3 (dk_at dksX14_init_0 1 rfl rfl)
theorem dX14_init_4 : decode cX14_init 4 = .ok (.aload_n 0, 1) := dk_42 (dk_at dksX14_init_0 4 rfl rfl)
theorem dX14_init_5 : decode cX14_init 5 = .ok (.bipush 44, 2) := dk_16 44 (dk_at dksX14_init_0 5 rfl rfl)
theorem dX14_init_7 : decode cX14_init 7 = .ok (.newarray .long, 2) := dk_188_11 (dk_at dksX14_init_0 7 rfl rfl)
theorem dX14_init_9 : decode cX14_init 9 = .ok (.putfield 9, 3) := dk_181 0 9 (dk_at dksX14_init_0 9 rfl rfl)
theorem dX14_init_12 : decode cX14_init 12 = .ok (.aload_n 0, 1) := dk_42 (dk_at dksX14_init_0 12 rfl rfl)
theorem dX14_init_13 : decode cX14_init 13 = .ok (.bipush 44, 2) := dk_16 44 (dk_at dksX14_init_0 13 rfl rfl)
theorem dX14_init_15 : decode cX14_init 15 = .ok (.bipush 44, 2) := dk_16 44 (dk_at dksX14_init_0 15 rfl rfl)
theorem dX14_init_17 : decode cX14_init 17 = .ok (.multianewarray 15 2, 4) := by decide +kernel
theorem dX14_init_21 : decode cX14_init 21 = .ok (.putfield 17, 3) := dk_181 0 17 (dk_at dksX14_init_0 21 rfl rfl)
theorem dX14_init_24 : decode cX14_init 24 = .ok (.aload_n 0, 1) := dk_42 (dk_at dksX14_init_1 0 rfl rfl)
theorem dX14_init_25 : decode cX14_init 25 = .ok (.bipush 44, 2) := dk_16 44 (dk_at dksX14_init_1 1 rfl rfl)
theorem dX14_init_27 : decode cX14_init 27 = .ok (.bipush 44, 2) := dk_16 44 (dk_at dksX14_init_1 3 rfl rfl)
theorem dX14_init_29 : decode cX14_init 29 = .ok (.multianewarray 15 2, 4) := by decide +kernel
theorem dX14_init_33 : decode cX14_init 33 = .ok (.putfield 20, 3) := dk_181 0 20 (dk_at dksX14_init_1 9 rfl rfl)
theorem dX14_init_36 : decode cX14_init 36 = .ok (.iconst 1, 1) := dk_4 (dk_at dksX14_init_1 12 rfl rfl)
theorem dX14_init_37 : decode cX14_init 37 = .ok (.istore_n 3, 1) := dk_62 (dk_at dksX14_init_1 13 rfl rfl)
theorem dX14_init_38 : decode cX14_init 38 = .ok (.iload_n 3, 1) := dk_29 (dk_at dksX14_init_1 14 rfl rfl)
theorem dX14_init_39 : decode cX14_init 39 = .ok (.ifCond .eq 139, 3) := dk_153 0 139 (dk_at dksX14_init_1 15 rfl rfl)
theorem dX14_init_42 : decode cX14_init 42 = .ok (.iconst 0, 1) := dk_3 (dk_at dksX14_init_1 18 rfl rfl)
theorem dX14_init_43 : decode cX14_init 43 = .ok (.istore_n 3, 1) := dk_62 (dk_at dksX14_init_1 19 rfl rfl)
theorem dX14_init_44 : decode cX14_init 44 = .ok (.aload_n 0, 1) := dk_42 (dk_at dksX14_init_1 20 rfl rfl)
theorem dX14_init_45 : decode cX14_init 45 = .ok (.aload_n 0, 1) := dk_42 (dk_at dksX14_init_1 21 rfl rfl)
theorem dX14_init_46 : decode cX14_init 46 = .ok (.getfield 9, 3) := dk_180 0 9 (dk_at dksX14_init_2 0 rfl rfl)
theorem dX14_init_49 : decode cX14_init 49 = .ok (.invokevirtual 23, 3) := dk_182 0 23 (dk_at dksX14_init_2 3 rfl rfl)
theorem dX14_init_52 : decode cX14_init 52 = .ok (.checkcast 24, 3) := dk_192 0 24 (dk_at dksX14_init_2 6 rfl rfl)
theorem dX14_init_55 : decode cX14_init 55 = .ok (.putfield 28, 3) := dk_181 0 28 (dk_at dksX14_init_2 9 rfl rfl)
theorem dX14_init_58 : decode cX14_init 58 = .ok (.aload_n 0, 1) := dk_42 (dk_at dksX14_init_2 12 rfl rfl)
theorem dX14_init_59 : decode cX14_init 59 = .ok (.dup, 1) := dk_89 (dk_at dksX14_init_2 13 rfl rfl)
theorem dX14_init_60 : decode cX14_init 60 = .ok (.getfield 31, 3) := dk_180 0 31 (dk_at dksX14_init_2 14 rfl rfl)
theorem dX14_init_63 : decode cX14_init 63 = .ok (.iconst 1, 1) := dk_4 (dk_at dksX14_init_2 17 rfl rfl)
theorem dX14_init_64 : decode cX14_init 64 = .ok (.iadd, 1) := dk_96 (dk_at dksX14_init_2 18 rfl rfl)
theorem dX14_init_65 : decode cX14_init 65 = .ok (.putfield 31, 3) := dk_181 0 31 (dk_at dksX14_init_2 19 rfl rfl)
theorem dX14_init_68 : decode cX14_init 68 = .ok (.iconst 0, 1) := dk_3 (dk_at dksX14_init_2 22 rfl rfl)
theorem dX14_init_69 : decode cX14_init 69 = .ok (.istore 4, 2) := dk_54 4 (dk_at dksX14_init_3 0 rfl rfl)
theorem dX14_init_71 : decode cX14_init 71 = .ok (.iload 4, 2) := dk_21 4 (dk_at dksX14_init_3 2 rfl rfl)
theorem dX14_init_73 : decode cX14_init 73 = .ok (.aload_n 1, 1) := dk_43 (dk_at dksX14_init_3 4 rfl rfl)
theorem dX14_init_74 : decode cX14_init 74 = .ok (.getfield 35, 3) := dk_180 0 35 (dk_at dksX14_init_3 5 rfl rfl)
theorem dX14_init_77 : decode cX14_init 77 = .ok (.invokevirtual 41, 3) := dk_182 0 41 (dk_at dksX14_init_3 8 rfl rfl)
theorem dX14_init_80 : decode cX14_init 80 = .ok (.if_icmp .ge 45, 3) := dk_162 0 45 (dk_at dksX14_init_3 11 rfl rfl)
theorem dX14_init_83 : decode cX14_init 83 = .ok (.aload_n 1, 1) := dk_43 (dk_at dksX14_init_3 14 rfl rfl)
theorem dX14_init_84 : decode cX14_init 84 = .ok (.getfield 35, 3) := dk_180 0 35 (dk_at dksX14_init_3 15 rfl rfl)
theorem dX14_init_87 : decode cX14_init 87 = .ok (.iload 4, 2) := dk_21 4 (dk_at dksX14_init_3 18 rfl rfl)
theorem dX14_init_89 : decode cX14_init 89 = .ok (.invokevirtual 47, 3) := dk_182 0 47 (dk_at dksX14_init_3 20 rfl rfl)
theorem dX14_init_92 : decode cX14_init 92 = .ok (.checkcast 51, 3) := dk_192 0 51 (dk_at dksX14_init_4 0 rfl rfl)
theorem dX14_init_95 : decode cX14_init 95 = .ok (.astore 5, 2) := dk_58 5 (dk_at dksX14_init_4 3 rfl rfl)
theorem dX14_init_97 : decode cX14_init 97 = .ok (.aload_n 2, 1) := dk_44 (dk_at dksX14_init_4 5 rfl rfl)
theorem dX14_init_98 : decode cX14_init 98 = .ok (.aload 5, 2) := dk_25 5 (dk_at dksX14_init_4 6 rfl rfl)
theorem dX14_init_100 : decode cX14_init 100 = .ok (.getfield 53, 3) := dk_180 0 53 (dk_at dksX14_init_4 8 rfl rfl)
theorem dX14_init_103 : decode cX14_init 103 = .ok (.baload, 1) := dk_51 (dk_at dksX14_init_4 11 rfl rfl)
theorem dX14_init_104 : decode cX14_init 104 = .ok (.ifCond .eq 15, 3) := dk_153 0 15 (dk_at dksX14_init_4 12 rfl rfl)
theorem dX14_init_107 : decode cX14_init 107 = .ok (.aload_n 0, 1) := dk_42 (dk_at dksX14_init_4 15 rfl rfl)
theorem dX14_init_108 : decode cX14_init 108 = .ok (.iload 4, 2) := dk_21 4 (dk_at dksX14_init_4 16 rfl rfl)
theorem dX14_init_110 : decode cX14_init 110 = .ok (.putfield 56, 3) := dk_181 0 56 (dk_at dksX14_init_4 18 rfl rfl)
theorem dX14_init_113 : decode cX14_init 113 = .ok (.aload_n 0, 1) := dk_42 (dk_at dksX14_init_4 21 rfl rfl)
theorem dX14_init_114 : decode cX14_init 114 = .ok (.aload 5, 2) := dk_25 5 (dk_at dksX14_init_4 22 rfl rfl)
theorem dX14_init_116 : decode cX14_init 116 = .ok (.invokevirtual 59, 3) := dk_182 0 59 (dk_at dksX14_init_5 0 rfl rfl)
theorem dX14_init_119 : decode cX14_init 119 = .ok (.iinc 4 1, 3) := dk_132 4 1 (dk_at dksX14_init_5 3 rfl rfl)
theorem dX14_init_122 : decode cX14_init 122 = .ok (.goto (-51), 3) := dk_167 255 205 (dk_at dksX14_init_5 6 rfl rfl)
theorem dX14_init_125 : decode cX14_init 125 = .ok (.iconst 0, 1) := dk_3 (dk_at dksX14_init_5 9 rfl rfl)
theorem dX14_init_126 : decode cX14_init 126 = .ok (.istore 4, 2) := dk_54 4 (dk_at dksX14_init_5 10 rfl rfl)
theorem dX14_init_128 : decode cX14_init 128 = .ok (.iload 4, 2) := dk_21 4 (dk_at dksX14_init_5 12 rfl rfl)
theorem dX14_init_130 : decode cX14_init 130 = .ok (.bipush 44, 2) := dk_16 44 (dk_at dksX14_init_5 14 rfl rfl)
theorem dX14_init_132 : decode cX14_init 132 = .ok (.if_icmp .ge 35, 3) := dk_162 0 35 (dk_at dksX14_init_5 16 rfl rfl)
theorem dX14_init_135 : decode cX14_init 135 = .ok (.iload_n 3, 1) := dk_29 (dk_at dksX14_init_5 19 rfl rfl)
theorem dX14_init_136 : decode cX14_init 136 = .ok (.aload_n 0, 1) := dk_42 (dk_at dksX14_init_5 20 rfl rfl)
theorem dX14_init_137 : decode cX14_init 137 = .ok (.getfield 28, 3) := dk_180 0 28 (dk_at dksX14_init_5 21 rfl rfl)
theorem dX14_init_140 : decode cX14_init 140 = .ok (.iload 4, 2) := dk_21 4 (dk_at dksX14_init_6 0 rfl rfl)
theorem dX14_init_142 : decode cX14_init 142 = .ok (.laload, 1) := dk_47 (dk_at dksX14_init_6 2 rfl rfl)
theorem dX14_init_143 : decode cX14_init 143 = .ok (.aload_n 0, 1) := dk_42 (dk_at dksX14_init_6 3 rfl rfl)
theorem dX14_init_144 : decode cX14_init 144 = .ok (.getfield 9, 3) := dk_180 0 9 (dk_at dksX14_init_6 4 rfl rfl)
theorem dX14_init_147 : decode cX14_init 147 = .ok (.iload 4, 2) := dk_21 4 (dk_at dksX14_init_6 7 rfl rfl)
theorem dX14_init_149 : decode cX14_init 149 = .ok (.laload, 1) := dk_47 (dk_at dksX14_init_6 9 rfl rfl)
theorem dX14_init_150 : decode cX14_init 150 = .ok (.lcmp, 1) := dk_148 (dk_at dksX14_init_6 10 rfl rfl)
theorem dX14_init_151 : decode cX14_init 151 = .ok (.ifCond .eq 7, 3) := dk_153 0 7 (dk_at dksX14_init_6 11 rfl rfl)
theorem dX14_init_154 : decode cX14_init 154 = .ok (.iconst 1, 1) := dk_4 (dk_at dksX14_init_6 14 rfl rfl)
theorem dX14_init_155 : decode cX14_init 155 = .ok (.goto 4, 3) := dk_167 0 4 (dk_at dksX14_init_6 15 rfl rfl)
theorem dX14_init_158 : decode cX14_init 158 = .ok (.iconst 0, 1) := dk_3 (dk_at dksX14_init_6 18 rfl rfl)
theorem dX14_init_159 : decode cX14_init 159 = .ok (.ior, 1) := dk_128 (dk_at dksX14_init_6 19 rfl rfl)
theorem dX14_init_160 : decode cX14_init 160 = .ok (.istore_n 3, 1) := dk_62 (dk_at dksX14_init_6 20 rfl rfl)
theorem dX14_init_161 : decode cX14_init 161 = .ok (.iinc 4 1, 3) := dk_132 4 1 (dk_at dksX14_init_6 21 rfl rfl)
theorem dX14_init_164 : decode cX14_init 164 = .ok (.goto (-36), 3) := dk_167 255 220 (dk_at dksX14_init_7 0 rfl rfl)
theorem dX14_init_167 : decode cX14_init 167 = .ok (.aload_n 0, 1) := dk_42 (dk_at dksX14_init_7 3 rfl rfl)
theorem dX14_init_168 : decode cX14_init 168 = .ok (.aload_n 0, 1) := dk_42 (dk_at dksX14_init_7 4 rfl rfl)
theorem dX14_init_169 : decode cX14_init 169 = .ok (.getfield 28, 3) := dk_180 0 28 (dk_at dksX14_init_7 5 rfl rfl)
theorem dX14_init_172 : decode cX14_init 172 = .ok (.putfield 9, 3) := dk_181 0 9 (dk_at dksX14_init_7 8 rfl rfl)
theorem dX14_init_175 : decode cX14_init 175 = .ok (.goto (-137), 3) := dk_167 255 119 (dk_at dksX14_init_7 11 rfl rfl)
theorem dX14_init_178 : decode cX14_init 178 = .ok (.aload_n 0, 1) := dk_42 (dk_at dksX14_init_7 14 rfl rfl)
theorem dX14_init_179 : decode cX14_init 179 = .ok (.dup, 1) := dk_89 (dk_at dksX14_init_7 15 rfl rfl)
theorem dX14_init_180 : decode cX14_init 180 = .ok (.getfield 31, 3) := dk_180 0 31 (dk_at dksX14_init_7 16 rfl rfl)
theorem dX14_init_183 : decode cX14_init 183 = .ok (.iconst 1, 1) := dk_4 (dk_at dksX14_init_7 19 rfl rfl)
theorem dX14_init_184 : decode cX14_init 184 = .ok (.isub, 1) := dk_100 (dk_at dksX14_init_7 20 rfl rfl)
theorem dX14_init_185 : decode cX14_init 185 = .ok (.putfield 31, 3) := dk_181 0 31 (dk_at dksX14_init_7 21 rfl rfl)
theorem dX14_init_188 : decode cX14_init 188 = .ok (.return_, 1) := dk_177 (dk_at dksX14_init_8 0 rfl rfl)
abbrev cX14_derive : ByteArray := prog_13_method_3_code
def yX14_derive : MethodName := ⟨RX14, "derive", "(LPointerAnalyzer$Statement;)V"⟩
def dkwX14_derive_11 : List UInt8 := [177]
abbrev dktX14_derive_11 : List UInt8 := dkwX14_derive_11 ++ []
def dkwX14_derive_10 : List UInt8 := [182, 0, 92, 42, 44, 180, 0, 89, 42, 180, 0, 9, 44, 180, 0, 103, 4, 184, 0, 110, 47, 182, 0, 92]
abbrev dktX14_derive_10 : List UInt8 := dkwX14_derive_10 ++ dktX14_derive_11
def dkwX14_derive_9 : List UInt8 := [33, 44, 180, 0, 103, 184, 0, 106, 182, 0, 92, 167, 0, 37, 42, 44, 180, 0, 103, 3, 184, 0, 110, 33]
abbrev dktX14_derive_9 : List UInt8 := dkwX14_derive_9 ++ dktX14_derive_10
def dkwX14_derive_8 : List UInt8 := [180, 0, 89, 10, 43, 180, 0, 96, 3, 184, 0, 99, 121, 182, 0, 92, 167, 0, 56, 42, 44, 180, 0, 89]
abbrev dktX14_derive_8 : List UInt8 := dkwX14_derive_8 ++ dktX14_derive_9
def dkwX14_derive_7 : List UInt8 := [184, 0, 65, 33, 182, 0, 92, 22, 5, 22, 5, 10, 101, 127, 55, 5, 167, 255, 230, 167, 0, 77, 42, 44]
abbrev dktX14_derive_7 : List UInt8 := dkwX14_derive_7 ++ dktX14_derive_8
def dkwX14_derive_6 : List UInt8 := [167, 0, 120, 42, 180, 0, 9, 44, 180, 0, 89, 47, 55, 5, 22, 5, 9, 148, 153, 0, 25, 42, 22, 5]
abbrev dktX14_derive_6 : List UInt8 := dkwX14_derive_6 ++ dktX14_derive_7
def dkwX14_derive_5 : List UInt8 := [180, 0, 9, 22, 5, 184, 0, 65, 47, 182, 0, 92, 22, 5, 22, 5, 10, 101, 127, 55, 5, 167, 255, 222]
abbrev dktX14_derive_5 : List UInt8 := dkwX14_derive_5 ++ dktX14_derive_6
def dkwX14_derive_4 : List UInt8 := [182, 0, 92, 167, 0, 163, 33, 55, 5, 22, 5, 9, 148, 153, 0, 33, 42, 44, 180, 0, 89, 42]
abbrev dktX14_derive_4 : List UInt8 := dkwX14_derive_4 ++ dktX14_derive_5
def dkwX14_derive_3 : List UInt8 := [42, 44, 180, 0, 89, 10, 44, 180, 0, 75, 121, 182, 0, 92, 167, 0, 175, 42, 44, 180, 0, 89, 33]
abbrev dktX14_derive_3 : List UInt8 := dkwX14_derive_3 ++ dktX14_derive_4
def dkwX14_derive_2 : List UInt8 := [170, 0, 0, 0, 0, 0, 194, 0, 0, 0, 0, 0, 0, 0, 5, 0, 0, 0, 39, 0, 0, 0, 56, 0, 0, 0, 68, 0, 0, 0, 111, 0, 0, 0, 154, 0, 0, 0, 175]
abbrev dktX14_derive_2 : List UInt8 := dkwX14_derive_2 ++ dktX14_derive_3
def dkwX14_derive_1 : List UInt8 := [47, 66, 44, 180, 0, 80, 182, 0, 84]
abbrev dktX14_derive_1 : List UInt8 := dkwX14_derive_1 ++ dktX14_derive_2
def dkwX14_derive_0 : List UInt8 := [43, 180, 0, 71, 77, 44, 180, 0, 75, 156, 0, 7, 9, 167, 0, 12, 42, 180, 0, 9, 44, 180, 0, 75]
abbrev dktX14_derive_0 : List UInt8 := dkwX14_derive_0 ++ dktX14_derive_1
theorem dksX14_derive_0 : cX14_derive.data.toList.drop 0 = dktX14_derive_0 := by decide +kernel
theorem dksX14_derive_1 : cX14_derive.data.toList.drop 24 = dktX14_derive_1 := dk_seg dksX14_derive_0 24 rfl rfl
theorem dksX14_derive_2 : cX14_derive.data.toList.drop 33 = dktX14_derive_2 := dk_seg dksX14_derive_1 9 rfl rfl
theorem dksX14_derive_3 : cX14_derive.data.toList.drop 72 = dktX14_derive_3 := dk_seg dksX14_derive_2 39 rfl rfl
theorem dksX14_derive_4 : cX14_derive.data.toList.drop 95 = dktX14_derive_4 := dk_seg dksX14_derive_3 23 rfl rfl
theorem dksX14_derive_5 : cX14_derive.data.toList.drop 117 = dktX14_derive_5 := dk_seg dksX14_derive_4 22 rfl rfl
theorem dksX14_derive_6 : cX14_derive.data.toList.drop 141 = dktX14_derive_6 := dk_seg dksX14_derive_5 24 rfl rfl
theorem dksX14_derive_7 : cX14_derive.data.toList.drop 165 = dktX14_derive_7 := dk_seg dksX14_derive_6 24 rfl rfl
theorem dksX14_derive_8 : cX14_derive.data.toList.drop 189 = dktX14_derive_8 := dk_seg dksX14_derive_7 24 rfl rfl
theorem dksX14_derive_9 : cX14_derive.data.toList.drop 213 = dktX14_derive_9 := dk_seg dksX14_derive_8 24 rfl rfl
theorem dksX14_derive_10 : cX14_derive.data.toList.drop 237 = dktX14_derive_10 := dk_seg dksX14_derive_9 24 rfl rfl
theorem dksX14_derive_11 : cX14_derive.data.toList.drop 261 = dktX14_derive_11 := dk_seg dksX14_derive_10 24 rfl rfl
theorem dX14_derive_0 : decode cX14_derive 0 = .ok (.aload_n 1, 1) := dk_43 (dk_at dksX14_derive_0 0 rfl rfl)
theorem dX14_derive_1 : decode cX14_derive 1 = .ok (.getfield 71, 3) := dk_180 0 71 (dk_at dksX14_derive_0 1 rfl rfl)
theorem dX14_derive_4 : decode cX14_derive 4 = .ok (.astore_n 2, 1) := dk_77 (dk_at dksX14_derive_0 4 rfl rfl)
theorem dX14_derive_5 : decode cX14_derive 5 = .ok (.aload_n 2, 1) := dk_44 (dk_at dksX14_derive_0 5 rfl rfl)
theorem dX14_derive_6 : decode cX14_derive 6 = .ok (.getfield 75, 3) := dk_180 0 75 (dk_at dksX14_derive_0 6 rfl rfl)
theorem dX14_derive_9 : decode cX14_derive 9 = .ok (.ifCond .ge 7, 3) := dk_156 0 7 (dk_at dksX14_derive_0 9 rfl rfl)
theorem dX14_derive_12 : decode cX14_derive 12 = .ok (.lconst 0, 1) := dk_9 (dk_at dksX14_derive_0 12 rfl rfl)
theorem dX14_derive_13 : decode cX14_derive 13 = .ok (.goto 12, 3) := dk_167 0 12 (dk_at dksX14_derive_0 13 rfl rfl)
theorem dX14_derive_16 : decode cX14_derive 16 = .ok (.aload_n 0, 1) := dk_42 (dk_at dksX14_derive_0 16 rfl rfl)
theorem dX14_derive_17 : decode cX14_derive 17 = .ok (.getfield 9, 3) := dk_180 0 9 (dk_at dksX14_derive_0 17 rfl rfl)
theorem dX14_derive_20 : decode cX14_derive 20 = .ok (.aload_n 2, 1) := dk_44 (dk_at dksX14_derive_0 20 rfl rfl)
theorem dX14_derive_21 : decode cX14_derive 21 = .ok (.getfield 75, 3) := dk_180 0 75 (dk_at dksX14_derive_0 21 rfl rfl)
theorem dX14_derive_24 : decode cX14_derive 24 = .ok (.laload, 1) := dk_47 (dk_at dksX14_derive_1 0 rfl rfl)
theorem dX14_derive_25 : decode cX14_derive 25 = .ok (.lstore_n 3, 1) := dk_66 (dk_at dksX14_derive_1 1 rfl rfl)
theorem dX14_derive_26 : decode cX14_derive 26 = .ok (.aload_n 2, 1) := dk_44 (dk_at dksX14_derive_1 2 rfl rfl)
theorem dX14_derive_27 : decode cX14_derive 27 = .ok (.getfield 80, 3) := dk_180 0 80 (dk_at dksX14_derive_1 3 rfl rfl)
theorem dX14_derive_30 : decode cX14_derive 30 = .ok (.invokevirtual 84, 3) := dk_182 0 84 (dk_at dksX14_derive_1 6 rfl rfl)
theorem dX14_derive_33 : decode cX14_derive 33 = .ok (.tableswitch 194 0 5 #[39, 56, 68, 111, 154, 175], 39) := by decide +kernel
theorem dX14_derive_72 : decode cX14_derive 72 = .ok (.aload_n 0, 1) := dk_42 (dk_at dksX14_derive_3 0 rfl rfl)
theorem dX14_derive_73 : decode cX14_derive 73 = .ok (.aload_n 2, 1) := dk_44 (dk_at dksX14_derive_3 1 rfl rfl)
theorem dX14_derive_74 : decode cX14_derive 74 = .ok (.getfield 89, 3) := dk_180 0 89 (dk_at dksX14_derive_3 2 rfl rfl)
theorem dX14_derive_77 : decode cX14_derive 77 = .ok (.lconst 1, 1) := dk_10 (dk_at dksX14_derive_3 5 rfl rfl)
theorem dX14_derive_78 : decode cX14_derive 78 = .ok (.aload_n 2, 1) := dk_44 (dk_at dksX14_derive_3 6 rfl rfl)
theorem dX14_derive_79 : decode cX14_derive 79 = .ok (.getfield 75, 3) := dk_180 0 75 (dk_at dksX14_derive_3 7 rfl rfl)
theorem dX14_derive_82 : decode cX14_derive 82 = .ok (.lshl, 1) := dk_121 (dk_at dksX14_derive_3 10 rfl rfl)
theorem dX14_derive_83 : decode cX14_derive 83 = .ok (.invokevirtual 92, 3) := dk_182 0 92 (dk_at dksX14_derive_3 11 rfl rfl)
theorem dX14_derive_86 : decode cX14_derive 86 = .ok (.goto 175, 3) := dk_167 0 175 (dk_at dksX14_derive_3 14 rfl rfl)
theorem dX14_derive_89 : decode cX14_derive 89 = .ok (.aload_n 0, 1) := dk_42 (dk_at dksX14_derive_3 17 rfl rfl)
theorem dX14_derive_90 : decode cX14_derive 90 = .ok (.aload_n 2, 1) := dk_44 (dk_at dksX14_derive_3 18 rfl rfl)
theorem dX14_derive_91 : decode cX14_derive 91 = .ok (.getfield 89, 3) := dk_180 0 89 (dk_at dksX14_derive_3 19 rfl rfl)
theorem dX14_derive_94 : decode cX14_derive 94 = .ok (.lload_n 3, 1) := dk_33 (dk_at dksX14_derive_3 22 rfl rfl)
theorem dX14_derive_95 : decode cX14_derive 95 = .ok (.invokevirtual 92, 3) := dk_182 0 92 (dk_at dksX14_derive_4 0 rfl rfl)
theorem dX14_derive_98 : decode cX14_derive 98 = .ok (.goto 163, 3) := dk_167 0 163 (dk_at dksX14_derive_4 3 rfl rfl)
theorem dX14_derive_101 : decode cX14_derive 101 = .ok (.lload_n 3, 1) := dk_33 (dk_at dksX14_derive_4 6 rfl rfl)
theorem dX14_derive_102 : decode cX14_derive 102 = .ok (.lstore 5, 2) := dk_55 5 (dk_at dksX14_derive_4 7 rfl rfl)
theorem dX14_derive_104 : decode cX14_derive 104 = .ok (.lload 5, 2) := dk_22 5 (dk_at dksX14_derive_4 9 rfl rfl)
theorem dX14_derive_106 : decode cX14_derive 106 = .ok (.lconst 0, 1) := dk_9 (dk_at dksX14_derive_4 11 rfl rfl)
theorem dX14_derive_107 : decode cX14_derive 107 = .ok (.lcmp, 1) := dk_148 (dk_at dksX14_derive_4 12 rfl rfl)
theorem dX14_derive_108 : decode cX14_derive 108 = .ok (.ifCond .eq 33, 3) := dk_153 0 33 (dk_at dksX14_derive_4 13 rfl rfl)
theorem dX14_derive_111 : decode cX14_derive 111 = .ok (.aload_n 0, 1) := dk_42 (dk_at dksX14_derive_4 16 rfl rfl)
theorem dX14_derive_112 : decode cX14_derive 112 = .ok (.aload_n 2, 1) := dk_44 (dk_at dksX14_derive_4 17 rfl rfl)
theorem dX14_derive_113 : decode cX14_derive 113 = .ok (.getfield 89, 3) := dk_180 0 89 (dk_at dksX14_derive_4 18 rfl rfl)
theorem dX14_derive_116 : decode cX14_derive 116 = .ok (.aload_n 0, 1) := dk_42 (dk_at dksX14_derive_4 21 rfl rfl)
theorem dX14_derive_117 : decode cX14_derive 117 = .ok (.getfield 9, 3) := dk_180 0 9 (dk_at dksX14_derive_5 0 rfl rfl)
theorem dX14_derive_120 : decode cX14_derive 120 = .ok (.lload 5, 2) := dk_22 5 (dk_at dksX14_derive_5 3 rfl rfl)
theorem dX14_derive_122 : decode cX14_derive 122 = .ok (.invokestatic 65, 3) := dk_184 0 65 (dk_at dksX14_derive_5 5 rfl rfl)
theorem dX14_derive_125 : decode cX14_derive 125 = .ok (.laload, 1) := dk_47 (dk_at dksX14_derive_5 8 rfl rfl)
theorem dX14_derive_126 : decode cX14_derive 126 = .ok (.invokevirtual 92, 3) := dk_182 0 92 (dk_at dksX14_derive_5 9 rfl rfl)
theorem dX14_derive_129 : decode cX14_derive 129 = .ok (.lload 5, 2) := dk_22 5 (dk_at dksX14_derive_5 12 rfl rfl)
theorem dX14_derive_131 : decode cX14_derive 131 = .ok (.lload 5, 2) := dk_22 5 (dk_at dksX14_derive_5 14 rfl rfl)
theorem dX14_derive_133 : decode cX14_derive 133 = .ok (.lconst 1, 1) := dk_10 (dk_at dksX14_derive_5 16 rfl rfl)
theorem dX14_derive_134 : decode cX14_derive 134 = .ok (.lsub, 1) := dk_101 (dk_at dksX14_derive_5 17 rfl rfl)
theorem dX14_derive_135 : decode cX14_derive 135 = .ok (.land, 1) := dk_127 (dk_at dksX14_derive_5 18 rfl rfl)
theorem dX14_derive_136 : decode cX14_derive 136 = .ok (.lstore 5, 2) := dk_55 5 (dk_at dksX14_derive_5 19 rfl rfl)
theorem dX14_derive_138 : decode cX14_derive 138 = .ok (.goto (-34), 3) := dk_167 255 222 (dk_at dksX14_derive_5 21 rfl rfl)
theorem dX14_derive_141 : decode cX14_derive 141 = .ok (.goto 120, 3) := dk_167 0 120 (dk_at dksX14_derive_6 0 rfl rfl)
theorem dX14_derive_144 : decode cX14_derive 144 = .ok (.aload_n 0, 1) := dk_42 (dk_at dksX14_derive_6 3 rfl rfl)
theorem dX14_derive_145 : decode cX14_derive 145 = .ok (.getfield 9, 3) := dk_180 0 9 (dk_at dksX14_derive_6 4 rfl rfl)
theorem dX14_derive_148 : decode cX14_derive 148 = .ok (.aload_n 2, 1) := dk_44 (dk_at dksX14_derive_6 7 rfl rfl)
theorem dX14_derive_149 : decode cX14_derive 149 = .ok (.getfield 89, 3) := dk_180 0 89 (dk_at dksX14_derive_6 8 rfl rfl)
theorem dX14_derive_152 : decode cX14_derive 152 = .ok (.laload, 1) := dk_47 (dk_at dksX14_derive_6 11 rfl rfl)
theorem dX14_derive_153 : decode cX14_derive 153 = .ok (.lstore 5, 2) := dk_55 5 (dk_at dksX14_derive_6 12 rfl rfl)
theorem dX14_derive_155 : decode cX14_derive 155 = .ok (.lload 5, 2) := dk_22 5 (dk_at dksX14_derive_6 14 rfl rfl)
theorem dX14_derive_157 : decode cX14_derive 157 = .ok (.lconst 0, 1) := dk_9 (dk_at dksX14_derive_6 16 rfl rfl)
theorem dX14_derive_158 : decode cX14_derive 158 = .ok (.lcmp, 1) := dk_148 (dk_at dksX14_derive_6 17 rfl rfl)
theorem dX14_derive_159 : decode cX14_derive 159 = .ok (.ifCond .eq 25, 3) := dk_153 0 25 (dk_at dksX14_derive_6 18 rfl rfl)
theorem dX14_derive_162 : decode cX14_derive 162 = .ok (.aload_n 0, 1) := dk_42 (dk_at dksX14_derive_6 21 rfl rfl)
theorem dX14_derive_163 : decode cX14_derive 163 = .ok (.lload 5, 2) := dk_22 5 (dk_at dksX14_derive_6 22 rfl rfl)
theorem dX14_derive_165 : decode cX14_derive 165 = .ok (.invokestatic 65, 3) := dk_184 0 65 (dk_at dksX14_derive_7 0 rfl rfl)
theorem dX14_derive_168 : decode cX14_derive 168 = .ok (.lload_n 3, 1) := dk_33 (dk_at dksX14_derive_7 3 rfl rfl)
theorem dX14_derive_169 : decode cX14_derive 169 = .ok (.invokevirtual 92, 3) := dk_182 0 92 (dk_at dksX14_derive_7 4 rfl rfl)
theorem dX14_derive_172 : decode cX14_derive 172 = .ok (.lload 5, 2) := dk_22 5 (dk_at dksX14_derive_7 7 rfl rfl)
theorem dX14_derive_174 : decode cX14_derive 174 = .ok (.lload 5, 2) := dk_22 5 (dk_at dksX14_derive_7 9 rfl rfl)
theorem dX14_derive_176 : decode cX14_derive 176 = .ok (.lconst 1, 1) := dk_10 (dk_at dksX14_derive_7 11 rfl rfl)
theorem dX14_derive_177 : decode cX14_derive 177 = .ok (.lsub, 1) := dk_101 (dk_at dksX14_derive_7 12 rfl rfl)
theorem dX14_derive_178 : decode cX14_derive 178 = .ok (.land, 1) := dk_127 (dk_at dksX14_derive_7 13 rfl rfl)
theorem dX14_derive_179 : decode cX14_derive 179 = .ok (.lstore 5, 2) := dk_55 5 (dk_at dksX14_derive_7 14 rfl rfl)
theorem dX14_derive_181 : decode cX14_derive 181 = .ok (.goto (-26), 3) := dk_167 255 230 (dk_at dksX14_derive_7 16 rfl rfl)
theorem dX14_derive_184 : decode cX14_derive 184 = .ok (.goto 77, 3) := dk_167 0 77 (dk_at dksX14_derive_7 19 rfl rfl)
theorem dX14_derive_187 : decode cX14_derive 187 = .ok (.aload_n 0, 1) := dk_42 (dk_at dksX14_derive_7 22 rfl rfl)
theorem dX14_derive_188 : decode cX14_derive 188 = .ok (.aload_n 2, 1) := dk_44 (dk_at dksX14_derive_7 23 rfl rfl)
theorem dX14_derive_189 : decode cX14_derive 189 = .ok (.getfield 89, 3) := dk_180 0 89 (dk_at dksX14_derive_8 0 rfl rfl)
theorem dX14_derive_192 : decode cX14_derive 192 = .ok (.lconst 1, 1) := dk_10 (dk_at dksX14_derive_8 3 rfl rfl)
theorem dX14_derive_193 : decode cX14_derive 193 = .ok (.aload_n 1, 1) := dk_43 (dk_at dksX14_derive_8 4 rfl rfl)
theorem dX14_derive_194 : decode cX14_derive 194 = .ok (.getfield 96, 3) := dk_180 0 96 (dk_at dksX14_derive_8 5 rfl rfl)
theorem dX14_derive_197 : decode cX14_derive 197 = .ok (.iconst 0, 1) := dk_3 (dk_at dksX14_derive_8 8 rfl rfl)
theorem dX14_derive_198 : decode cX14_derive 198 = .ok (.invokestatic 99, 3) := dk_184 0 99 (dk_at dksX14_derive_8 9 rfl rfl)
theorem dX14_derive_201 : decode cX14_derive 201 = .ok (.lshl, 1) := dk_121 (dk_at dksX14_derive_8 12 rfl rfl)
theorem dX14_derive_202 : decode cX14_derive 202 = .ok (.invokevirtual 92, 3) := dk_182 0 92 (dk_at dksX14_derive_8 13 rfl rfl)
theorem dX14_derive_205 : decode cX14_derive 205 = .ok (.goto 56, 3) := dk_167 0 56 (dk_at dksX14_derive_8 16 rfl rfl)
theorem dX14_derive_208 : decode cX14_derive 208 = .ok (.aload_n 0, 1) := dk_42 (dk_at dksX14_derive_8 19 rfl rfl)
theorem dX14_derive_209 : decode cX14_derive 209 = .ok (.aload_n 2, 1) := dk_44 (dk_at dksX14_derive_8 20 rfl rfl)
theorem dX14_derive_210 : decode cX14_derive 210 = .ok (.getfield 89, 3) := dk_180 0 89 (dk_at dksX14_derive_8 21 rfl rfl)
theorem dX14_derive_213 : decode cX14_derive 213 = .ok (.lload_n 3, 1) := dk_33 (dk_at dksX14_derive_9 0 rfl rfl)
theorem dX14_derive_214 : decode cX14_derive 214 = .ok (.aload_n 2, 1) := dk_44 (dk_at dksX14_derive_9 1 rfl rfl)
theorem dX14_derive_215 : decode cX14_derive 215 = .ok (.getfield 103, 3) := dk_180 0 103 (dk_at dksX14_derive_9 2 rfl rfl)
theorem dX14_derive_218 : decode cX14_derive 218 = .ok (.invokestatic 106, 3) := dk_184 0 106 (dk_at dksX14_derive_9 5 rfl rfl)
theorem dX14_derive_221 : decode cX14_derive 221 = .ok (.invokevirtual 92, 3) := dk_182 0 92 (dk_at dksX14_derive_9 8 rfl rfl)
theorem dX14_derive_224 : decode cX14_derive 224 = .ok (.goto 37, 3) := dk_167 0 37 (dk_at dksX14_derive_9 11 rfl rfl)
theorem dX14_derive_227 : decode cX14_derive 227 = .ok (.aload_n 0, 1) := dk_42 (dk_at dksX14_derive_9 14 rfl rfl)
theorem dX14_derive_228 : decode cX14_derive 228 = .ok (.aload_n 2, 1) := dk_44 (dk_at dksX14_derive_9 15 rfl rfl)
theorem dX14_derive_229 : decode cX14_derive 229 = .ok (.getfield 103, 3) := dk_180 0 103 (dk_at dksX14_derive_9 16 rfl rfl)
theorem dX14_derive_232 : decode cX14_derive 232 = .ok (.iconst 0, 1) := dk_3 (dk_at dksX14_derive_9 19 rfl rfl)
theorem dX14_derive_233 : decode cX14_derive 233 = .ok (.invokestatic 110, 3) := dk_184 0 110 (dk_at dksX14_derive_9 20 rfl rfl)
theorem dX14_derive_236 : decode cX14_derive 236 = .ok (.lload_n 3, 1) := dk_33 (dk_at dksX14_derive_9 23 rfl rfl)
theorem dX14_derive_237 : decode cX14_derive 237 = .ok (.invokevirtual 92, 3) := dk_182 0 92 (dk_at dksX14_derive_10 0 rfl rfl)
theorem dX14_derive_240 : decode cX14_derive 240 = .ok (.aload_n 0, 1) := dk_42 (dk_at dksX14_derive_10 3 rfl rfl)
theorem dX14_derive_241 : decode cX14_derive 241 = .ok (.aload_n 2, 1) := dk_44 (dk_at dksX14_derive_10 4 rfl rfl)
theorem dX14_derive_242 : decode cX14_derive 242 = .ok (.getfield 89, 3) := dk_180 0 89 (dk_at dksX14_derive_10 5 rfl rfl)
theorem dX14_derive_245 : decode cX14_derive 245 = .ok (.aload_n 0, 1) := dk_42 (dk_at dksX14_derive_10 8 rfl rfl)
theorem dX14_derive_246 : decode cX14_derive 246 = .ok (.getfield 9, 3) := dk_180 0 9 (dk_at dksX14_derive_10 9 rfl rfl)
theorem dX14_derive_249 : decode cX14_derive 249 = .ok (.aload_n 2, 1) := dk_44 (dk_at dksX14_derive_10 12 rfl rfl)
theorem dX14_derive_250 : decode cX14_derive 250 = .ok (.getfield 103, 3) := dk_180 0 103 (dk_at dksX14_derive_10 13 rfl rfl)
theorem dX14_derive_253 : decode cX14_derive 253 = .ok (.iconst 1, 1) := dk_4 (dk_at dksX14_derive_10 16 rfl rfl)
theorem dX14_derive_254 : decode cX14_derive 254 = .ok (.invokestatic 110, 3) := dk_184 0 110 (dk_at dksX14_derive_10 17 rfl rfl)
theorem dX14_derive_257 : decode cX14_derive 257 = .ok (.laload, 1) := dk_47 (dk_at dksX14_derive_10 20 rfl rfl)
theorem dX14_derive_258 : decode cX14_derive 258 = .ok (.invokevirtual 92, 3) := dk_182 0 92 (dk_at dksX14_derive_10 21 rfl rfl)
theorem dX14_derive_261 : decode cX14_derive 261 = .ok (.return_, 1) := dk_177 (dk_at dksX14_derive_11 0 rfl rfl)
abbrev cX14_add : ByteArray := prog_13_method_2_code
def yX14_add : MethodName := ⟨RX14, "add", "(IJ)V"⟩
def dkwX14_add_3 : List UInt8 := [55, 4, 167, 255, 207, 177]
abbrev dktX14_add_3 : List UInt8 := dkwX14_add_3 ++ []
def dkwX14_add_2 : List UInt8 := [180, 0, 31, 79, 42, 180, 0, 20, 27, 50, 21, 6, 42, 180, 0, 56, 79, 22, 4, 22, 4, 10, 101, 127]
abbrev dktX14_add_2 : List UInt8 := dkwX14_add_2 ++ dktX14_add_3
def dkwX14_add_1 : List UInt8 := [80, 22, 4, 9, 148, 153, 0, 48, 22, 4, 184, 0, 65, 54, 6, 42, 180, 0, 17, 27, 50, 21, 6, 42]
abbrev dktX14_add_1 : List UInt8 := dkwX14_add_1 ++ dktX14_add_2
def dkwX14_add_0 : List UInt8 := [32, 42, 180, 0, 28, 27, 47, 20, 0, 63, 131, 127, 55, 4, 42, 180, 0, 28, 27, 92, 47, 22, 4, 129]
abbrev dktX14_add_0 : List UInt8 := dkwX14_add_0 ++ dktX14_add_1
theorem dksX14_add_0 : cX14_add.data.toList.drop 0 = dktX14_add_0 := by decide +kernel
theorem dksX14_add_1 : cX14_add.data.toList.drop 24 = dktX14_add_1 := dk_seg dksX14_add_0 24 rfl rfl
theorem dksX14_add_2 : cX14_add.data.toList.drop 48 = dktX14_add_2 := dk_seg dksX14_add_1 24 rfl rfl
theorem dksX14_add_3 : cX14_add.data.toList.drop 72 = dktX14_add_3 := dk_seg dksX14_add_2 24 rfl rfl
theorem dX14_add_0 : decode cX14_add 0 = .ok (.lload_n 2, 1) := dk_32 (dk_at dksX14_add_0 0 rfl rfl)
theorem dX14_add_1 : decode cX14_add 1 = .ok (.aload_n 0, 1) := dk_42 (dk_at dksX14_add_0 1 rfl rfl)
theorem dX14_add_2 : decode cX14_add 2 = .ok (.getfield 28, 3) := dk_180 0 28 (dk_at dksX14_add_0 2 rfl rfl)
theorem dX14_add_5 : decode cX14_add 5 = .ok (.iload_n 1, 1) := dk_27 (dk_at dksX14_add_0 5 rfl rfl)
theorem dX14_add_6 : decode cX14_add 6 = .ok (.laload, 1) := dk_47 (dk_at dksX14_add_0 6 rfl rfl)
theorem dX14_add_7 : decode cX14_add 7 = .ok (.ldc2_w 63, 3) := dk_20 0 63 (dk_at dksX14_add_0 7 rfl rfl)
theorem dX14_add_10 : decode cX14_add 10 = .ok (.lxor, 1) := dk_131 (dk_at dksX14_add_0 10 rfl rfl)
theorem dX14_add_11 : decode cX14_add 11 = .ok (.land, 1) := dk_127 (dk_at dksX14_add_0 11 rfl rfl)
theorem dX14_add_12 : decode cX14_add 12 = .ok (.lstore 4, 2) := dk_55 4 (dk_at dksX14_add_0 12 rfl rfl)
theorem dX14_add_14 : decode cX14_add 14 = .ok (.aload_n 0, 1) := dk_42 (dk_at dksX14_add_0 14 rfl rfl)
theorem dX14_add_15 : decode cX14_add 15 = .ok (.getfield 28, 3) := dk_180 0 28 (dk_at dksX14_add_0 15 rfl rfl)
theorem dX14_add_18 : decode cX14_add 18 = .ok (.iload_n 1, 1) := dk_27 (dk_at dksX14_add_0 18 rfl rfl)
theorem dX14_add_19 : decode cX14_add 19 = .ok (.dup2, 1) := dk_92 (dk_at dksX14_add_0 19 rfl rfl)
theorem dX14_add_20 : decode cX14_add 20 = .ok (.laload, 1) := dk_47 (dk_at dksX14_add_0 20 rfl rfl)
theorem dX14_add_21 : decode cX14_add 21 = .ok (.lload 4, 2) := dk_22 4 (dk_at dksX14_add_0 21 rfl rfl)
theorem dX14_add_23 : decode cX14_add 23 = .ok (.lor, 1) := dk_129 (dk_at dksX14_add_0 23 rfl rfl)
theorem dX14_add_24 : decode cX14_add 24 = .ok (.lastore, 1) := dk_80 (dk_at dksX14_add_1 0 rfl rfl)
theorem dX14_add_25 : decode cX14_add 25 = .ok (.lload 4, 2) := dk_22 4 (dk_at dksX14_add_1 1 rfl rfl)
theorem dX14_add_27 : decode cX14_add 27 = .ok (.lconst 0, 1) := dk_9 (dk_at dksX14_add_1 3 rfl rfl)
theorem dX14_add_28 : decode cX14_add 28 = .ok (.lcmp, 1) := dk_148 (dk_at dksX14_add_1 4 rfl rfl)
theorem dX14_add_29 : decode cX14_add 29 = .ok (.ifCond .eq 48, 3) := dk_153 0 48 (dk_at dksX14_add_1 5 rfl rfl)
theorem dX14_add_32 : decode cX14_add 32 = .ok (.lload 4, 2) := dk_22 4 (dk_at dksX14_add_1 8 rfl rfl)
theorem dX14_add_34 : decode cX14_add 34 = .ok (.invokestatic 65, 3) := dk_184 0 65 (dk_at dksX14_add_1 10 rfl rfl)
theorem dX14_add_37 : decode cX14_add 37 = .ok (.istore 6, 2) := dk_54 6 (dk_at dksX14_add_1 13 rfl rfl)
theorem dX14_add_39 : decode cX14_add 39 = .ok (.aload_n 0, 1) := dk_42 (dk_at dksX14_add_1 15 rfl rfl)
theorem dX14_add_40 : decode cX14_add 40 = .ok (.getfield 17, 3) := dk_180 0 17 (dk_at dksX14_add_1 16 rfl rfl)
theorem dX14_add_43 : decode cX14_add 43 = .ok (.iload_n 1, 1) := dk_27 (dk_at dksX14_add_1 19 rfl rfl)
theorem dX14_add_44 : decode cX14_add 44 = .ok (.aaload, 1) := dk_50 (dk_at dksX14_add_1 20 rfl rfl)
theorem dX14_add_45 : decode cX14_add 45 = .ok (.iload 6, 2) := dk_21 6 (dk_at dksX14_add_1 21 rfl rfl)
theorem dX14_add_47 : decode cX14_add 47 = .ok (.aload_n 0, 1) := dk_42 (dk_at dksX14_add_1 23 rfl rfl)
theorem dX14_add_48 : decode cX14_add 48 = .ok (.getfield 31, 3) := dk_180 0 31 (dk_at dksX14_add_2 0 rfl rfl)
theorem dX14_add_51 : decode cX14_add 51 = .ok (.iastore, 1) := dk_79 (dk_at dksX14_add_2 3 rfl rfl)
theorem dX14_add_52 : decode cX14_add 52 = .ok (.aload_n 0, 1) := dk_42 (dk_at dksX14_add_2 4 rfl rfl)
theorem dX14_add_53 : decode cX14_add 53 = .ok (.getfield 20, 3) := dk_180 0 20 (dk_at dksX14_add_2 5 rfl rfl)
theorem dX14_add_56 : decode cX14_add 56 = .ok (.iload_n 1, 1) := dk_27 (dk_at dksX14_add_2 8 rfl rfl)
theorem dX14_add_57 : decode cX14_add 57 = .ok (.aaload, 1) := dk_50 (dk_at dksX14_add_2 9 rfl rfl)
theorem dX14_add_58 : decode cX14_add 58 = .ok (.iload 6, 2) := dk_21 6 (dk_at dksX14_add_2 10 rfl rfl)
theorem dX14_add_60 : decode cX14_add 60 = .ok (.aload_n 0, 1) := dk_42 (dk_at dksX14_add_2 12 rfl rfl)
theorem dX14_add_61 : decode cX14_add 61 = .ok (.getfield 56, 3) := dk_180 0 56 (dk_at dksX14_add_2 13 rfl rfl)
theorem dX14_add_64 : decode cX14_add 64 = .ok (.iastore, 1) := dk_79 (dk_at dksX14_add_2 16 rfl rfl)
theorem dX14_add_65 : decode cX14_add 65 = .ok (.lload 4, 2) := dk_22 4 (dk_at dksX14_add_2 17 rfl rfl)
theorem dX14_add_67 : decode cX14_add 67 = .ok (.lload 4, 2) := dk_22 4 (dk_at dksX14_add_2 19 rfl rfl)
theorem dX14_add_69 : decode cX14_add 69 = .ok (.lconst 1, 1) := dk_10 (dk_at dksX14_add_2 21 rfl rfl)
theorem dX14_add_70 : decode cX14_add 70 = .ok (.lsub, 1) := dk_101 (dk_at dksX14_add_2 22 rfl rfl)
theorem dX14_add_71 : decode cX14_add 71 = .ok (.land, 1) := dk_127 (dk_at dksX14_add_2 23 rfl rfl)
theorem dX14_add_72 : decode cX14_add 72 = .ok (.lstore 4, 2) := dk_55 4 (dk_at dksX14_add_3 0 rfl rfl)
theorem dX14_add_74 : decode cX14_add 74 = .ok (.goto (-49), 3) := dk_167 255 207 (dk_at dksX14_add_3 2 rfl rfl)
theorem dX14_add_77 : decode cX14_add 77 = .ok (.return_, 1) := dk_177 (dk_at dksX14_add_3 5 rfl rfl)
abbrev cX14_moved : ByteArray := prog_13_method_4_code
def yX14_moved : MethodName := ⟨RX14, "moved", "(JI)J"⟩
def dkwX14_moved_3 : List UInt8 := [167, 0, 4, 9, 129, 66, 22, 5, 22, 5, 10, 101, 127, 55, 5, 167, 255, 188, 33, 173]
abbrev dktX14_moved_3 : List UInt8 := dkwX14_moved_3 ++ []
def dkwX14_moved_2 : List UInt8 := [162, 0, 7, 4, 167, 0, 4, 3, 54, 8, 33, 21, 8, 153, 0, 12, 10, 21, 7, 28, 96, 121]
abbrev dktX14_moved_2 : List UInt8 := dkwX14_moved_2 ++ dktX14_moved_3
def dkwX14_moved_1 : List UInt8 := [184, 0, 65, 54, 7, 21, 7, 16, 20, 161, 0, 20, 21, 7, 16, 20, 100, 6, 112, 28, 96, 6]
abbrev dktX14_moved_1 : List UInt8 := dkwX14_moved_1 ++ dktX14_moved_2
def dkwX14_moved_0 : List UInt8 := [28, 154, 0, 7, 30, 167, 0, 4, 9, 66, 30, 55, 5, 22, 5, 9, 148, 153, 0, 67, 22, 5]
abbrev dktX14_moved_0 : List UInt8 := dkwX14_moved_0 ++ dktX14_moved_1
theorem dksX14_moved_0 : cX14_moved.data.toList.drop 0 = dktX14_moved_0 := by decide +kernel
theorem dksX14_moved_1 : cX14_moved.data.toList.drop 22 = dktX14_moved_1 := dk_seg dksX14_moved_0 22 rfl rfl
theorem dksX14_moved_2 : cX14_moved.data.toList.drop 44 = dktX14_moved_2 := dk_seg dksX14_moved_1 22 rfl rfl
theorem dksX14_moved_3 : cX14_moved.data.toList.drop 66 = dktX14_moved_3 := dk_seg dksX14_moved_2 22 rfl rfl
theorem dX14_moved_0 : decode cX14_moved 0 = .ok (.iload_n 2, 1) := dk_28 (dk_at dksX14_moved_0 0 rfl rfl)
theorem dX14_moved_1 : decode cX14_moved 1 = .ok (.ifCond .ne 7, 3) := dk_154 0 7 (dk_at dksX14_moved_0 1 rfl rfl)
theorem dX14_moved_4 : decode cX14_moved 4 = .ok (.lload_n 0, 1) := dk_30 (dk_at dksX14_moved_0 4 rfl rfl)
theorem dX14_moved_5 : decode cX14_moved 5 = .ok (.goto 4, 3) := dk_167 0 4 (dk_at dksX14_moved_0 5 rfl rfl)
theorem dX14_moved_8 : decode cX14_moved 8 = .ok (.lconst 0, 1) := dk_9 (dk_at dksX14_moved_0 8 rfl rfl)
theorem dX14_moved_9 : decode cX14_moved 9 = .ok (.lstore_n 3, 1) := dk_66 (dk_at dksX14_moved_0 9 rfl rfl)
theorem dX14_moved_10 : decode cX14_moved 10 = .ok (.lload_n 0, 1) := dk_30 (dk_at dksX14_moved_0 10 rfl rfl)
theorem dX14_moved_11 : decode cX14_moved 11 = .ok (.lstore 5, 2) := dk_55 5 (dk_at dksX14_moved_0 11 rfl rfl)
theorem dX14_moved_13 : decode cX14_moved 13 = .ok (.lload 5, 2) := dk_22 5 (dk_at dksX14_moved_0 13 rfl rfl)
theorem dX14_moved_15 : decode cX14_moved 15 = .ok (.lconst 0, 1) := dk_9 (dk_at dksX14_moved_0 15 rfl rfl)
theorem dX14_moved_16 : decode cX14_moved 16 = .ok (.lcmp, 1) := dk_148 (dk_at dksX14_moved_0 16 rfl rfl)
theorem dX14_moved_17 : decode cX14_moved 17 = .ok (.ifCond .eq 67, 3) := dk_153 0 67 (dk_at dksX14_moved_0 17 rfl rfl)
theorem dX14_moved_20 : decode cX14_moved 20 = .ok (.lload 5, 2) := dk_22 5 (dk_at dksX14_moved_0 20 rfl rfl)
theorem dX14_moved_22 : decode cX14_moved 22 = .ok (.invokestatic 65, 3) := dk_184 0 65 (dk_at dksX14_moved_1 0 rfl rfl)
theorem dX14_moved_25 : decode cX14_moved 25 = .ok (.istore 7, 2) := dk_54 7 (dk_at dksX14_moved_1 3 rfl rfl)
theorem dX14_moved_27 : decode cX14_moved 27 = .ok (.iload 7, 2) := dk_21 7 (dk_at dksX14_moved_1 5 rfl rfl)
theorem dX14_moved_29 : decode cX14_moved 29 = .ok (.bipush 20, 2) := dk_16 20 (dk_at dksX14_moved_1 7 rfl rfl)
theorem dX14_moved_31 : decode cX14_moved 31 = .ok (.if_icmp .lt 20, 3) := dk_161 0 20 (dk_at dksX14_moved_1 9 rfl rfl)
theorem dX14_moved_34 : decode cX14_moved 34 = .ok (.iload 7, 2) := dk_21 7 (dk_at dksX14_moved_1 12 rfl rfl)
theorem dX14_moved_36 : decode cX14_moved 36 = .ok (.bipush 20, 2) := dk_16 20 (dk_at dksX14_moved_1 14 rfl rfl)
theorem dX14_moved_38 : decode cX14_moved 38 = .ok (.isub, 1) := dk_100 (dk_at dksX14_moved_1 16 rfl rfl)
theorem dX14_moved_39 : decode cX14_moved 39 = .ok (.iconst 3, 1) := dk_6 (dk_at dksX14_moved_1 17 rfl rfl)
theorem dX14_moved_40 : decode cX14_moved 40 = .ok (.irem, 1) := dk_112 (dk_at dksX14_moved_1 18 rfl rfl)
theorem dX14_moved_41 : decode cX14_moved 41 = .ok (.iload_n 2, 1) := dk_28 (dk_at dksX14_moved_1 19 rfl rfl)
theorem dX14_moved_42 : decode cX14_moved 42 = .ok (.iadd, 1) := dk_96 (dk_at dksX14_moved_1 20 rfl rfl)
theorem dX14_moved_43 : decode cX14_moved 43 = .ok (.iconst 3, 1) := dk_6 (dk_at dksX14_moved_1 21 rfl rfl)
theorem dX14_moved_44 : decode cX14_moved 44 = .ok (.if_icmp .ge 7, 3) := dk_162 0 7 (dk_at dksX14_moved_2 0 rfl rfl)
theorem dX14_moved_47 : decode cX14_moved 47 = .ok (.iconst 1, 1) := dk_4 (dk_at dksX14_moved_2 3 rfl rfl)
theorem dX14_moved_48 : decode cX14_moved 48 = .ok (.goto 4, 3) := dk_167 0 4 (dk_at dksX14_moved_2 4 rfl rfl)
theorem dX14_moved_51 : decode cX14_moved 51 = .ok (.iconst 0, 1) := dk_3 (dk_at dksX14_moved_2 7 rfl rfl)
theorem dX14_moved_52 : decode cX14_moved 52 = .ok (.istore 8, 2) := dk_54 8 (dk_at dksX14_moved_2 8 rfl rfl)
theorem dX14_moved_54 : decode cX14_moved 54 = .ok (.lload_n 3, 1) := dk_33 (dk_at dksX14_moved_2 10 rfl rfl)
theorem dX14_moved_55 : decode cX14_moved 55 = .ok (.iload 8, 2) := dk_21 8 (dk_at dksX14_moved_2 11 rfl rfl)
theorem dX14_moved_57 : decode cX14_moved 57 = .ok (.ifCond .eq 12, 3) := dk_153 0 12 (dk_at dksX14_moved_2 13 rfl rfl)
theorem dX14_moved_60 : decode cX14_moved 60 = .ok (.lconst 1, 1) := dk_10 (dk_at dksX14_moved_2 16 rfl rfl)
theorem dX14_moved_61 : decode cX14_moved 61 = .ok (.iload 7, 2) := dk_21 7 (dk_at dksX14_moved_2 17 rfl rfl)
theorem dX14_moved_63 : decode cX14_moved 63 = .ok (.iload_n 2, 1) := dk_28 (dk_at dksX14_moved_2 19 rfl rfl)
theorem dX14_moved_64 : decode cX14_moved 64 = .ok (.iadd, 1) := dk_96 (dk_at dksX14_moved_2 20 rfl rfl)
theorem dX14_moved_65 : decode cX14_moved 65 = .ok (.lshl, 1) := dk_121 (dk_at dksX14_moved_2 21 rfl rfl)
theorem dX14_moved_66 : decode cX14_moved 66 = .ok (.goto 4, 3) := dk_167 0 4 (dk_at dksX14_moved_3 0 rfl rfl)
theorem dX14_moved_69 : decode cX14_moved 69 = .ok (.lconst 0, 1) := dk_9 (dk_at dksX14_moved_3 3 rfl rfl)
theorem dX14_moved_70 : decode cX14_moved 70 = .ok (.lor, 1) := dk_129 (dk_at dksX14_moved_3 4 rfl rfl)
theorem dX14_moved_71 : decode cX14_moved 71 = .ok (.lstore_n 3, 1) := dk_66 (dk_at dksX14_moved_3 5 rfl rfl)
theorem dX14_moved_72 : decode cX14_moved 72 = .ok (.lload 5, 2) := dk_22 5 (dk_at dksX14_moved_3 6 rfl rfl)
theorem dX14_moved_74 : decode cX14_moved 74 = .ok (.lload 5, 2) := dk_22 5 (dk_at dksX14_moved_3 8 rfl rfl)
theorem dX14_moved_76 : decode cX14_moved 76 = .ok (.lconst 1, 1) := dk_10 (dk_at dksX14_moved_3 10 rfl rfl)
theorem dX14_moved_77 : decode cX14_moved 77 = .ok (.lsub, 1) := dk_101 (dk_at dksX14_moved_3 11 rfl rfl)
theorem dX14_moved_78 : decode cX14_moved 78 = .ok (.land, 1) := dk_127 (dk_at dksX14_moved_3 12 rfl rfl)
theorem dX14_moved_79 : decode cX14_moved 79 = .ok (.lstore 5, 2) := dk_55 5 (dk_at dksX14_moved_3 13 rfl rfl)
theorem dX14_moved_81 : decode cX14_moved 81 = .ok (.goto (-68), 3) := dk_167 255 188 (dk_at dksX14_moved_3 15 rfl rfl)
theorem dX14_moved_84 : decode cX14_moved 84 = .ok (.lload_n 3, 1) := dk_33 (dk_at dksX14_moved_3 18 rfl rfl)
theorem dX14_moved_85 : decode cX14_moved 85 = .ok (.lreturn, 1) := dk_173 (dk_at dksX14_moved_3 19 rfl rfl)
theorem q183 : (Jvm.Cond.initialized "PointerAnalyzer$Ranks") ∈ lw_all := lw_g (lw_at lw_m1 61 rfl) rfl
theorem q350 : (Jvm.Cond.selects "PointerAnalyzer$Ranks" ({ cls := "java/lang/Object", name := "getClass", desc := "()Ljava/lang/Class;" } : Jvm.MethodName) ({ cls := "java/lang/Object", name := "getClass", desc := "()Ljava/lang/Class;" } : Jvm.MethodName)) ∈ lw_all := lw_g (lw_at lw_m1 228 rfl) rfl
theorem q702 : (Jvm.Cond.fieldLinkNest "PointerAnalyzer$Ranks" (35 : Nat) "PointerAnalyzer$Program" "statements" "Ljava/util/ArrayList;" "PointerAnalyzer") ∈ lw_tbl := lw_at lw_m3 100 rfl
theorem q773 : (Jvm.Cond.selects "PointerAnalyzer$Ranks" ({ cls := "java/lang/Object", name := "equals", desc := "(Ljava/lang/Object;)Z" } : Jvm.MethodName) ({ cls := "java/lang/Object", name := "equals", desc := "(Ljava/lang/Object;)Z" } : Jvm.MethodName)) ∈ lw_all := lw_g (lw_at lw_m3 171 rfl) rfl
theorem q1175 : (Jvm.Cond.fieldLinkNest "PointerAnalyzer$Ranks" (53 : Nat) "PointerAnalyzer$Statement" "function" "I" "PointerAnalyzer") ∈ lw_tbl := lw_at lw_m5 93 rfl
theorem q1183 : (Jvm.Cond.fieldLinkNest "PointerAnalyzer$Ranks" (71 : Nat) "PointerAnalyzer$Statement" "line" "LPointerAnalyzer$Line;" "PointerAnalyzer") ∈ lw_tbl := lw_at lw_m5 101 rfl
theorem q1191 : (Jvm.Cond.fieldLinkNest "PointerAnalyzer$Ranks" (96 : Nat) "PointerAnalyzer$Statement" "site" "I" "PointerAnalyzer") ∈ lw_tbl := lw_at lw_m5 109 rfl
theorem q2149 : (Jvm.Cond.instantiable "PointerAnalyzer$Ranks" (6 : Nat)) ∈ lw_all := lw_g (lw_at lw_m9 107 rfl) rfl
theorem q2151 : (Jvm.Cond.instanceMethod ({ cls := "PointerAnalyzer$Ranks", name := "<init>", desc := "(LPointerAnalyzer$Program;[Z)V" } : Jvm.MethodName)) ∈ lw_all := lw_g (lw_at lw_m9 109 rfl) rfl
theorem q2152 : (Jvm.Cond.code ({ cls := "PointerAnalyzer$Ranks", name := "<init>", desc := "(LPointerAnalyzer$Program;[Z)V" } : Jvm.MethodName) prog_13_method_1_code (6 : Nat) (Option.none : Option Jvm.ClassFile.FieldType)) ∈ lw_all := lw_g (lw_at lw_m9 110 rfl) rfl
theorem q2153 : (Jvm.Cond.methodLink "PointerAnalyzer$Ranks" (3 : Nat) ({ cls := "java/lang/Object", name := "<init>", desc := "()V" } : Jvm.MethodName)) ∈ lw_all := lw_g (lw_at lw_m9 111 rfl) rfl
theorem q2154 : (Jvm.Cond.classLink "PointerAnalyzer$Ranks" (15 : Nat) "[[I") ∈ lw_all := lw_g (lw_at lw_m9 112 rfl) rfl
theorem q2156 : (Jvm.Cond.methodLink "PointerAnalyzer$Ranks" (23 : Nat) ({ cls := "[J", name := "clone", desc := "()Ljava/lang/Object;" } : Jvm.MethodName)) ∈ lw_all := lw_g (lw_at lw_m9 114 rfl) rfl
theorem q2157 : (Jvm.Cond.classLink "PointerAnalyzer$Ranks" (24 : Nat) "[J") ∈ lw_all := lw_g (lw_at lw_m9 115 rfl) rfl
theorem q2158 : (Jvm.Cond.methodLink "PointerAnalyzer$Ranks" (41 : Nat) ({ cls := "java/util/ArrayList", name := "size", desc := "()I" } : Jvm.MethodName)) ∈ lw_all := lw_g (lw_at lw_m9 116 rfl) rfl
theorem q2159 : (Jvm.Cond.methodLink "PointerAnalyzer$Ranks" (47 : Nat) ({ cls := "java/util/ArrayList", name := "get", desc := "(I)Ljava/lang/Object;" } : Jvm.MethodName)) ∈ lw_all := lw_g (lw_at lw_m9 117 rfl) rfl
theorem q2160 : (Jvm.Cond.classLink "PointerAnalyzer$Ranks" (51 : Nat) "PointerAnalyzer$Statement") ∈ lw_all := lw_g (lw_at lw_m9 118 rfl) rfl
theorem q2161 : (Jvm.Cond.methodLink "PointerAnalyzer$Ranks" (59 : Nat) ({ cls := "PointerAnalyzer$Ranks", name := "derive", desc := "(LPointerAnalyzer$Statement;)V" } : Jvm.MethodName)) ∈ lw_all := lw_g (lw_at lw_m9 119 rfl) rfl
theorem q2162 : (Jvm.Cond.privateMethod ({ cls := "PointerAnalyzer$Ranks", name := "derive", desc := "(LPointerAnalyzer$Statement;)V" } : Jvm.MethodName)) ∈ lw_tbl := lw_at lw_m9 120 rfl
theorem q2163 : (Jvm.Cond.instanceMethod ({ cls := "PointerAnalyzer$Ranks", name := "derive", desc := "(LPointerAnalyzer$Statement;)V" } : Jvm.MethodName)) ∈ lw_all := lw_g (lw_at lw_m9 121 rfl) rfl
theorem q2164 : (Jvm.Cond.code ({ cls := "PointerAnalyzer$Ranks", name := "derive", desc := "(LPointerAnalyzer$Statement;)V" } : Jvm.MethodName) prog_13_method_3_code (7 : Nat) (Option.none : Option Jvm.ClassFile.FieldType)) ∈ lw_all := lw_g (lw_at lw_m9 122 rfl) rfl
theorem q2165 : (Jvm.Cond.methodLink "PointerAnalyzer$Ranks" (84 : Nat) ({ cls := "PointerAnalyzer$Kind", name := "ordinal", desc := "()I" } : Jvm.MethodName)) ∈ lw_all := lw_g (lw_at lw_m9 123 rfl) rfl
theorem q2166 : (Jvm.Cond.methodLink "PointerAnalyzer$Ranks" (92 : Nat) ({ cls := "PointerAnalyzer$Ranks", name := "add", desc := "(IJ)V" } : Jvm.MethodName)) ∈ lw_all := lw_g (lw_at lw_m9 124 rfl) rfl
theorem q2167 : (Jvm.Cond.privateMethod ({ cls := "PointerAnalyzer$Ranks", name := "add", desc := "(IJ)V" } : Jvm.MethodName)) ∈ lw_tbl := lw_at lw_m9 125 rfl
theorem q2168 : (Jvm.Cond.instanceMethod ({ cls := "PointerAnalyzer$Ranks", name := "add", desc := "(IJ)V" } : Jvm.MethodName)) ∈ lw_all := lw_g (lw_at lw_m9 126 rfl) rfl
theorem q2169 : (Jvm.Cond.code ({ cls := "PointerAnalyzer$Ranks", name := "add", desc := "(IJ)V" } : Jvm.MethodName) prog_13_method_2_code (7 : Nat) (Option.none : Option Jvm.ClassFile.FieldType)) ∈ lw_all := lw_g (lw_at lw_m9 127 rfl) rfl
theorem q2170 : (Jvm.Cond.constantLong "PointerAnalyzer$Ranks" (63 : Nat) (-1 : Int64)) ∈ lw_all := lw_g (lw_at lw_m9 128 rfl) rfl
theorem q2171 : (Jvm.Cond.methodLink "PointerAnalyzer$Ranks" (65 : Nat) ({ cls := "java/lang/Long", name := "numberOfTrailingZeros", desc := "(J)I" } : Jvm.MethodName)) ∈ lw_all := lw_g (lw_at lw_m9 129 rfl) rfl
theorem q2172 : (Jvm.Cond.methodLinkNest "PointerAnalyzer$Ranks" (99 : Nat) ({ cls := "PointerAnalyzer", name := "fieldCode", desc := "(II)I" } : Jvm.MethodName) "PointerAnalyzer") ∈ lw_tbl := lw_at lw_m9 130 rfl
theorem q2173 : (Jvm.Cond.methodLink "PointerAnalyzer$Ranks" (106 : Nat) ({ cls := "PointerAnalyzer$Ranks", name := "moved", desc := "(JI)J" } : Jvm.MethodName)) ∈ lw_all := lw_g (lw_at lw_m9 131 rfl) rfl
theorem q2174 : (Jvm.Cond.static ({ cls := "PointerAnalyzer$Ranks", name := "moved", desc := "(JI)J" } : Jvm.MethodName)) ∈ lw_all := lw_g (lw_at lw_m9 132 rfl) rfl
theorem q2175 : (Jvm.Cond.code ({ cls := "PointerAnalyzer$Ranks", name := "moved", desc := "(JI)J" } : Jvm.MethodName) prog_13_method_4_code (9 : Nat) (Option.some Jvm.ClassFile.FieldType.long)) ∈ lw_all := lw_g (lw_at lw_m9 133 rfl) rfl
theorem q2176 : (Jvm.Cond.methodLinkNest "PointerAnalyzer$Ranks" (110 : Nat) ({ cls := "PointerAnalyzer", name := "local", desc := "(II)I" } : Jvm.MethodName) "PointerAnalyzer") ∈ lw_tbl := lw_at lw_m9 134 rfl
theorem q2177 : (Jvm.Cond.fieldLink "PointerAnalyzer$Ranks" (9 : Nat) "PointerAnalyzer$Ranks" "now" "[J") ∈ lw_all := lw_g (lw_at lw_m9 135 rfl) rfl
theorem q2178 : (Jvm.Cond.fieldLink "PointerAnalyzer$Ranks" (28 : Nat) "PointerAnalyzer$Ranks" "next" "[J") ∈ lw_all := lw_g (lw_at lw_m9 136 rfl) rfl
theorem q2179 : (Jvm.Cond.fieldLink "PointerAnalyzer$Ranks" (17 : Nat) "PointerAnalyzer$Ranks" "ranks" "[[I") ∈ lw_all := lw_g (lw_at lw_m9 137 rfl) rfl
theorem q2181 : (Jvm.Cond.fieldLink "PointerAnalyzer$Ranks" (20 : Nat) "PointerAnalyzer$Ranks" "reasons" "[[I") ∈ lw_all := lw_g (lw_at lw_m9 139 rfl) rfl
theorem q2183 : (Jvm.Cond.fieldLink "PointerAnalyzer$Ranks" (31 : Nat) "PointerAnalyzer$Ranks" "round" "I") ∈ lw_all := lw_g (lw_at lw_m9 141 rfl) rfl
theorem q2185 : (Jvm.Cond.fieldLink "PointerAnalyzer$Ranks" (56 : Nat) "PointerAnalyzer$Ranks" "statement" "I") ∈ lw_all := lw_g (lw_at lw_m9 143 rfl) rfl
theorem q2186 : (Jvm.Cond.lays "PointerAnalyzer$Ranks" "PointerAnalyzer$Ranks" "now" "[J") ∈ lw_all := lw_g (lw_at lw_m9 144 rfl) rfl
theorem q2187 : (Jvm.Cond.soleField "PointerAnalyzer$Ranks" "now") ∈ lw_all := lw_g (lw_at lw_m9 145 rfl) rfl
theorem q2188 : (Jvm.Cond.lays "PointerAnalyzer$Ranks" "PointerAnalyzer$Ranks" "next" "[J") ∈ lw_all := lw_g (lw_at lw_m9 146 rfl) rfl
theorem q2189 : (Jvm.Cond.soleField "PointerAnalyzer$Ranks" "next") ∈ lw_all := lw_g (lw_at lw_m9 147 rfl) rfl
theorem q2190 : (Jvm.Cond.laysFinal "PointerAnalyzer$Ranks" "PointerAnalyzer$Ranks" "ranks" "[[I") ∈ lw_all := lw_g (lw_at lw_m9 148 rfl) rfl
theorem q2191 : (Jvm.Cond.soleField "PointerAnalyzer$Ranks" "ranks") ∈ lw_all := lw_g (lw_at lw_m9 149 rfl) rfl
theorem q2192 : (Jvm.Cond.laysFinal "PointerAnalyzer$Ranks" "PointerAnalyzer$Ranks" "reasons" "[[I") ∈ lw_all := lw_g (lw_at lw_m9 150 rfl) rfl
theorem q2193 : (Jvm.Cond.soleField "PointerAnalyzer$Ranks" "reasons") ∈ lw_all := lw_g (lw_at lw_m9 151 rfl) rfl
theorem q2194 : (Jvm.Cond.lays "PointerAnalyzer$Ranks" "PointerAnalyzer$Ranks" "round" "I") ∈ lw_all := lw_g (lw_at lw_m9 152 rfl) rfl
theorem q2195 : (Jvm.Cond.soleField "PointerAnalyzer$Ranks" "round") ∈ lw_all := lw_g (lw_at lw_m9 153 rfl) rfl
theorem q2196 : (Jvm.Cond.lays "PointerAnalyzer$Ranks" "PointerAnalyzer$Ranks" "statement" "I") ∈ lw_all := lw_g (lw_at lw_m9 154 rfl) rfl
theorem q2197 : (Jvm.Cond.soleField "PointerAnalyzer$Ranks" "statement") ∈ lw_all := lw_g (lw_at lw_m9 155 rfl) rfl
theorem q2198 : (Jvm.Cond.superclass "PointerAnalyzer$Ranks" "java/lang/Object") ∈ lw_all := lw_g (lw_at lw_m9 156 rfl) rfl
theorem q2594 : (Jvm.Cond.fieldLinkNest "PointerAnalyzer$Ranks" (80 : Nat) "PointerAnalyzer$Line" "kind" "LPointerAnalyzer$Kind;" "PointerAnalyzer") ∈ lw_tbl := lw_at lw_m11 72 rfl
theorem q2601 : (Jvm.Cond.fieldLinkNest "PointerAnalyzer$Ranks" (89 : Nat) "PointerAnalyzer$Line" "left" "I" "PointerAnalyzer") ∈ lw_tbl := lw_at lw_m11 79 rfl
theorem q2606 : (Jvm.Cond.fieldLinkNest "PointerAnalyzer$Ranks" (75 : Nat) "PointerAnalyzer$Line" "right" "I" "PointerAnalyzer") ∈ lw_tbl := lw_at lw_m11 84 rfl
theorem q2614 : (Jvm.Cond.fieldLinkNest "PointerAnalyzer$Ranks" (103 : Nat) "PointerAnalyzer$Line" "extra" "I" "PointerAnalyzer") ∈ lw_tbl := lw_at lw_m11 92 rfl
theorem q3497 : (Jvm.Cond.castable "PointerAnalyzer$Ranks" "java/lang/Object") ∈ lw_tbl := lw_at lw_m15 15 rfl
theorem in_X14 : ∀ w ∈ wsX140, w ∈ lw_all := lw_in wsX140 [2186, 2188, 2190, 2192, 2194, 2196] (by decide +kernel) (by decide +kernel)

/-! PointerAnalyzer$Unification -/
set_option maxRecDepth 100000
def RX15 : String := "PointerAnalyzer$Unification"
def TX15 : u_T := fun k => match k with
  | _ => ("PointerAnalyzer$Unification", "terms", "[LPointerAnalyzer$Term;", true)
def tyX15 : Nat → FieldType := fun k => match k with
  | _ => .array (.object "PointerAnalyzer$Term")
abbrev wsX150 : List Cond := u_ws RX15 TX15 1
theorem nmX15 : ∀ a, a < 1 → ∀ b, b < 1 → a ≠ b → (TX15 a).2.1 ≠ (TX15 b).2.1 := by decide +kernel
theorem tyX15_ok : ∀ k, k < 1 → parseFieldDescriptor (TX15 k).2.2.1 = some (tyX15 k) := by decide +kernel
abbrev cX15_init : ByteArray := prog_19_method_1_code
def yX15_init : MethodName := ⟨RX15, "<init>", "(LPointerAnalyzer$Program;)V"⟩
def dkwX15_init_3 : List UInt8 := [182, 0, 34, 192, 0, 38, 182, 0, 40, 132, 2, 1, 167, 255, 227, 177]
abbrev dktX15_init_3 : List UInt8 := dkwX15_init_3 ++ []
def dkwX15_init_2 : List UInt8 := [167, 255, 231, 3, 61, 28, 43, 180, 0, 24, 182, 0, 28, 162, 0, 24, 42, 43, 180, 0, 24, 28]
abbrev dktX15_init_2 : List UInt8 := dkwX15_init_2 ++ dktX15_init_3
def dkwX15_init_1 : List UInt8 := [180, 0, 17, 190, 162, 0, 22, 42, 180, 0, 17, 28, 187, 0, 15, 89, 183, 0, 23, 83, 132, 2, 1]
abbrev dktX15_init_1 : List UInt8 := dkwX15_init_1 ++ dktX15_init_2
def dkwX15_init_0 : List UInt8 := [42, 183, 0, 3, 42, 16, 20, 43, 180, 0, 9, 96, 189, 0, 15, 181, 0, 17, 3, 61, 28, 42]
abbrev dktX15_init_0 : List UInt8 := dkwX15_init_0 ++ dktX15_init_1
theorem dksX15_init_0 : cX15_init.data.toList.drop 0 = dktX15_init_0 := by decide +kernel
theorem dksX15_init_1 : cX15_init.data.toList.drop 22 = dktX15_init_1 := dk_seg dksX15_init_0 22 rfl rfl
theorem dksX15_init_2 : cX15_init.data.toList.drop 45 = dktX15_init_2 := dk_seg dksX15_init_1 23 rfl rfl
theorem dksX15_init_3 : cX15_init.data.toList.drop 67 = dktX15_init_3 := dk_seg dksX15_init_2 22 rfl rfl
theorem dX15_init_0 : decode cX15_init 0 = .ok (.aload_n 0, 1) := dk_42 (dk_at dksX15_init_0 0 rfl rfl)
theorem dX15_init_1 : decode cX15_init 1 = .ok (.invokespecial 3, 3) := dk_183 0 3 (dk_at dksX15_init_0 1 rfl rfl)
theorem dX15_init_4 : decode cX15_init 4 = .ok (.aload_n 0, 1) := dk_42 (dk_at dksX15_init_0 4 rfl rfl)
theorem dX15_init_5 : decode cX15_init 5 = .ok (.bipush 20, 2) := dk_16 20 (dk_at dksX15_init_0 5 rfl rfl)
theorem dX15_init_7 : decode cX15_init 7 = .ok (.aload_n 1, 1) := dk_43 (dk_at dksX15_init_0 7 rfl rfl)
theorem dX15_init_8 : decode cX15_init 8 = .ok (.getfield 9, 3) := dk_180 0 9 (dk_at dksX15_init_0 8 rfl rfl)
theorem dX15_init_11 : decode cX15_init 11 = .ok (.iadd, 1) := dk_96 (dk_at dksX15_init_0 11 rfl rfl)
theorem dX15_init_12 : decode cX15_init 12 = .ok (.anewarray 15, 3) := dk_189 0 15 (dk_at dksX15_init_0 12 rfl rfl)
theorem dX15_init_15 : decode cX15_init 15 = .ok (.putfield 17, 3) := dk_181 0 17 (dk_at dksX15_init_0 15 rfl rfl)
theorem dX15_init_18 : decode cX15_init 18 = .ok (.iconst 0, 1) := dk_3 (dk_at dksX15_init_0 18 rfl rfl)
theorem dX15_init_19 : decode cX15_init 19 = .ok (.istore_n 2, 1) := dk_61 (dk_at dksX15_init_0 19 rfl rfl)
theorem dX15_init_20 : decode cX15_init 20 = .ok (.iload_n 2, 1) := dk_28 (dk_at dksX15_init_0 20 rfl rfl)
theorem dX15_init_21 : decode cX15_init 21 = .ok (.aload_n 0, 1) := dk_42 (dk_at dksX15_init_0 21 rfl rfl)
theorem dX15_init_22 : decode cX15_init 22 = .ok (.getfield 17, 3) := dk_180 0 17 (dk_at dksX15_init_1 0 rfl rfl)
theorem dX15_init_25 : decode cX15_init 25 = .ok (.arraylength, 1) := dk_190 (dk_at dksX15_init_1 3 rfl rfl)
theorem dX15_init_26 : decode cX15_init 26 = .ok (.if_icmp .ge 22, 3) := dk_162 0 22 (dk_at dksX15_init_1 4 rfl rfl)
theorem dX15_init_29 : decode cX15_init 29 = .ok (.aload_n 0, 1) := dk_42 (dk_at dksX15_init_1 7 rfl rfl)
theorem dX15_init_30 : decode cX15_init 30 = .ok (.getfield 17, 3) := dk_180 0 17 (dk_at dksX15_init_1 8 rfl rfl)
theorem dX15_init_33 : decode cX15_init 33 = .ok (.iload_n 2, 1) := dk_28 (dk_at dksX15_init_1 11 rfl rfl)
theorem dX15_init_34 : decode cX15_init 34 = .ok (.new 15, 3) := dk_187 0 15 (dk_at dksX15_init_1 12 rfl rfl)
theorem dX15_init_37 : decode cX15_init 37 = .ok (.dup, 1) := dk_89 (dk_at dksX15_init_1 15 rfl rfl)
theorem dX15_init_38 : decode cX15_init 38 = .ok (.invokespecial 23, 3) := dk_183 0 23 (dk_at dksX15_init_1 16 rfl rfl)
theorem dX15_init_41 : decode cX15_init 41 = .ok (.aastore, 1) := dk_83 (dk_at dksX15_init_1 19 rfl rfl)
theorem dX15_init_42 : decode cX15_init 42 = .ok (.iinc 2 1, 3) := dk_132 2 1 (dk_at dksX15_init_1 20 rfl rfl)
theorem dX15_init_45 : decode cX15_init 45 = .ok (.goto (-25), 3) := dk_167 255 231 (dk_at dksX15_init_2 0 rfl rfl)
theorem dX15_init_48 : decode cX15_init 48 = .ok (.iconst 0, 1) := dk_3 (dk_at dksX15_init_2 3 rfl rfl)
theorem dX15_init_49 : decode cX15_init 49 = .ok (.istore_n 2, 1) := dk_61 (dk_at dksX15_init_2 4 rfl rfl)
theorem dX15_init_50 : decode cX15_init 50 = .ok (.iload_n 2, 1) := dk_28 (dk_at dksX15_init_2 5 rfl rfl)
theorem dX15_init_51 : decode cX15_init 51 = .ok (.aload_n 1, 1) := dk_43 (dk_at dksX15_init_2 6 rfl rfl)
theorem dX15_init_52 : decode cX15_init 52 = .ok (.getfield 24, 3) := dk_180 0 24 (dk_at dksX15_init_2 7 rfl rfl)
theorem dX15_init_55 : decode cX15_init 55 = .ok (.invokevirtual 28, 3) := dk_182 0 28 (dk_at dksX15_init_2 10 rfl rfl)
theorem dX15_init_58 : decode cX15_init 58 = .ok (.if_icmp .ge 24, 3) := dk_162 0 24 (dk_at dksX15_init_2 13 rfl rfl)
theorem dX15_init_61 : decode cX15_init 61 = .ok (.aload_n 0, 1) := dk_42 (dk_at dksX15_init_2 16 rfl rfl)
theorem dX15_init_62 : decode cX15_init 62 = .ok (.aload_n 1, 1) := dk_43 (dk_at dksX15_init_2 17 rfl rfl)
theorem dX15_init_63 : decode cX15_init 63 = .ok (.getfield 24, 3) := dk_180 0 24 (dk_at dksX15_init_2 18 rfl rfl)
theorem dX15_init_66 : decode cX15_init 66 = .ok (.iload_n 2, 1) := dk_28 (dk_at dksX15_init_2 21 rfl rfl)
theorem dX15_init_67 : decode cX15_init 67 = .ok (.invokevirtual 34, 3) := dk_182 0 34 (dk_at dksX15_init_3 0 rfl rfl)
theorem dX15_init_70 : decode cX15_init 70 = .ok (.checkcast 38, 3) := dk_192 0 38 (dk_at dksX15_init_3 3 rfl rfl)
theorem dX15_init_73 : decode cX15_init 73 = .ok (.invokevirtual 40, 3) := dk_182 0 40 (dk_at dksX15_init_3 6 rfl rfl)
theorem dX15_init_76 : decode cX15_init 76 = .ok (.iinc 2 1, 3) := dk_132 2 1 (dk_at dksX15_init_3 9 rfl rfl)
theorem dX15_init_79 : decode cX15_init 79 = .ok (.goto (-29), 3) := dk_167 255 227 (dk_at dksX15_init_3 12 rfl rfl)
theorem dX15_init_82 : decode cX15_init 82 = .ok (.return_, 1) := dk_177 (dk_at dksX15_init_3 15 rfl rfl)
abbrev cX15_unify : ByteArray := prog_19_method_3_code
def yX15_unify : MethodName := ⟨RX15, "unify", "(LPointerAnalyzer$Statement;)V"⟩
def dkwX15_unify_8 : List UInt8 := [45, 182, 0, 80, 42, 180, 0, 17, 44, 180, 0, 85, 4, 184, 0, 88, 50, 182, 0, 80, 182, 0, 55, 177]
abbrev dktX15_unify_8 : List UInt8 := dkwX15_unify_8 ++ []
def dkwX15_unify_7 : List UInt8 := [180, 0, 17, 44, 180, 0, 85, 3, 184, 0, 88, 50, 182, 0, 80, 25, 4, 182, 0, 80, 182, 0, 55, 42]
abbrev dktX15_unify_7 : List UInt8 := dkwX15_unify_7 ++ dktX15_unify_8
def dkwX15_unify_6 : List UInt8 := [182, 0, 80, 42, 180, 0, 17, 16, 20, 43, 180, 0, 82, 96, 50, 182, 0, 55, 167, 0, 52, 42, 42]
abbrev dktX15_unify_6 : List UInt8 := dkwX15_unify_6 ++ dktX15_unify_7
def dkwX15_unify_5 : List UInt8 := [167, 0, 94, 42, 45, 182, 0, 80, 182, 0, 80, 25, 4, 182, 0, 80, 182, 0, 55, 167, 0, 75, 42, 45]
abbrev dktX15_unify_5 : List UInt8 := dkwX15_unify_5 ++ dktX15_unify_6
def dkwX15_unify_4 : List UInt8 := [182, 0, 55, 167, 0, 113, 42, 45, 182, 0, 80, 25, 4, 182, 0, 80, 182, 0, 80, 182, 0, 55]
abbrev dktX15_unify_4 : List UInt8 := dkwX15_unify_4 ++ dktX15_unify_5
def dkwX15_unify_3 : List UInt8 := [42, 45, 182, 0, 80, 25, 4, 182, 0, 55, 167, 0, 129, 42, 45, 182, 0, 80, 25, 4, 182, 0, 80]
abbrev dktX15_unify_3 : List UInt8 := dkwX15_unify_3 ++ dktX15_unify_4
def dkwX15_unify_2 : List UInt8 := [170, 0, 0, 0, 0, 0, 0, 130, 0, 0, 0, 0, 0, 0, 0, 5, 0, 0, 0, 40, 0, 0, 0, 53, 0, 0, 0, 69, 0, 0, 0, 88, 0, 0, 0, 107, 0, 0, 0, 53]
abbrev dktX15_unify_2 : List UInt8 := dkwX15_unify_2 ++ dktX15_unify_3
def dkwX15_unify_1 : List UInt8 := [167, 0, 12, 42, 180, 0, 17, 44, 180, 0, 68, 50, 58, 4, 44, 180, 0, 71, 182, 0, 75]
abbrev dktX15_unify_1 : List UInt8 := dkwX15_unify_1 ++ dktX15_unify_2
def dkwX15_unify_0 : List UInt8 := [43, 180, 0, 59, 77, 42, 180, 0, 17, 44, 180, 0, 63, 50, 78, 44, 180, 0, 68, 156, 0, 7, 1]
abbrev dktX15_unify_0 : List UInt8 := dkwX15_unify_0 ++ dktX15_unify_1
theorem dksX15_unify_0 : cX15_unify.data.toList.drop 0 = dktX15_unify_0 := by decide +kernel
theorem dksX15_unify_1 : cX15_unify.data.toList.drop 23 = dktX15_unify_1 := dk_seg dksX15_unify_0 23 rfl rfl
theorem dksX15_unify_2 : cX15_unify.data.toList.drop 44 = dktX15_unify_2 := dk_seg dksX15_unify_1 21 rfl rfl
theorem dksX15_unify_3 : cX15_unify.data.toList.drop 84 = dktX15_unify_3 := dk_seg dksX15_unify_2 40 rfl rfl
theorem dksX15_unify_4 : cX15_unify.data.toList.drop 107 = dktX15_unify_4 := dk_seg dksX15_unify_3 23 rfl rfl
theorem dksX15_unify_5 : cX15_unify.data.toList.drop 129 = dktX15_unify_5 := dk_seg dksX15_unify_4 22 rfl rfl
theorem dksX15_unify_6 : cX15_unify.data.toList.drop 153 = dktX15_unify_6 := dk_seg dksX15_unify_5 24 rfl rfl
theorem dksX15_unify_7 : cX15_unify.data.toList.drop 176 = dktX15_unify_7 := dk_seg dksX15_unify_6 23 rfl rfl
theorem dksX15_unify_8 : cX15_unify.data.toList.drop 200 = dktX15_unify_8 := dk_seg dksX15_unify_7 24 rfl rfl
theorem dX15_unify_0 : decode cX15_unify 0 = .ok (.aload_n 1, 1) := dk_43 (dk_at dksX15_unify_0 0 rfl rfl)
theorem dX15_unify_1 : decode cX15_unify 1 = .ok (.getfield 59, 3) := dk_180 0 59 (dk_at dksX15_unify_0 1 rfl rfl)
theorem dX15_unify_4 : decode cX15_unify 4 = .ok (.astore_n 2, 1) := dk_77 (dk_at dksX15_unify_0 4 rfl rfl)
theorem dX15_unify_5 : decode cX15_unify 5 = .ok (.aload_n 0, 1) := dk_42 (dk_at dksX15_unify_0 5 rfl rfl)
theorem dX15_unify_6 : decode cX15_unify 6 = .ok (.getfield 17, 3) := dk_180 0 17 (dk_at dksX15_unify_0 6 rfl rfl)
theorem dX15_unify_9 : decode cX15_unify 9 = .ok (.aload_n 2, 1) := dk_44 (dk_at dksX15_unify_0 9 rfl rfl)
theorem dX15_unify_10 : decode cX15_unify 10 = .ok (.getfield 63, 3) := dk_180 0 63 (dk_at dksX15_unify_0 10 rfl rfl)
theorem dX15_unify_13 : decode cX15_unify 13 = .ok (.aaload, 1) := dk_50 (dk_at dksX15_unify_0 13 rfl rfl)
theorem dX15_unify_14 : decode cX15_unify 14 = .ok (.astore_n 3, 1) := dk_78 (dk_at dksX15_unify_0 14 rfl rfl)
theorem dX15_unify_15 : decode cX15_unify 15 = .ok (.aload_n 2, 1) := dk_44 (dk_at dksX15_unify_0 15 rfl rfl)
theorem dX15_unify_16 : decode cX15_unify 16 = .ok (.getfield 68, 3) := dk_180 0 68 (dk_at dksX15_unify_0 16 rfl rfl)
theorem dX15_unify_19 : decode cX15_unify 19 = .ok (.ifCond .ge 7, 3) := dk_156 0 7 (dk_at dksX15_unify_0 19 rfl rfl)
theorem dX15_unify_22 : decode cX15_unify 22 = .ok (.aconst_null, 1) := dk_1 (dk_at dksX15_unify_0 22 rfl rfl)
theorem dX15_unify_23 : decode cX15_unify 23 = .ok (.goto 12, 3) := dk_167 0 12 (dk_at dksX15_unify_1 0 rfl rfl)
theorem dX15_unify_26 : decode cX15_unify 26 = .ok (.aload_n 0, 1) := dk_42 (dk_at dksX15_unify_1 3 rfl rfl)
theorem dX15_unify_27 : decode cX15_unify 27 = .ok (.getfield 17, 3) := dk_180 0 17 (dk_at dksX15_unify_1 4 rfl rfl)
theorem dX15_unify_30 : decode cX15_unify 30 = .ok (.aload_n 2, 1) := dk_44 (dk_at dksX15_unify_1 7 rfl rfl)
theorem dX15_unify_31 : decode cX15_unify 31 = .ok (.getfield 68, 3) := dk_180 0 68 (dk_at dksX15_unify_1 8 rfl rfl)
theorem dX15_unify_34 : decode cX15_unify 34 = .ok (.aaload, 1) := dk_50 (dk_at dksX15_unify_1 11 rfl rfl)
theorem dX15_unify_35 : decode cX15_unify 35 = .ok (.astore 4, 2) := dk_58 4 (dk_at dksX15_unify_1 12 rfl rfl)
theorem dX15_unify_37 : decode cX15_unify 37 = .ok (.aload_n 2, 1) := dk_44 (dk_at dksX15_unify_1 14 rfl rfl)
theorem dX15_unify_38 : decode cX15_unify 38 = .ok (.getfield 71, 3) := dk_180 0 71 (dk_at dksX15_unify_1 15 rfl rfl)
theorem dX15_unify_41 : decode cX15_unify 41 = .ok (.invokevirtual 75, 3) := dk_182 0 75 (dk_at dksX15_unify_1 18 rfl rfl)
theorem dX15_unify_44 : decode cX15_unify 44 = .ok (.tableswitch 130 0 5 #[40, 53, 69, 88, 107, 53], 40) := by decide +kernel
theorem dX15_unify_84 : decode cX15_unify 84 = .ok (.aload_n 0, 1) := dk_42 (dk_at dksX15_unify_3 0 rfl rfl)
theorem dX15_unify_85 : decode cX15_unify 85 = .ok (.aload_n 3, 1) := dk_45 (dk_at dksX15_unify_3 1 rfl rfl)
theorem dX15_unify_86 : decode cX15_unify 86 = .ok (.invokevirtual 80, 3) := dk_182 0 80 (dk_at dksX15_unify_3 2 rfl rfl)
theorem dX15_unify_89 : decode cX15_unify 89 = .ok (.aload 4, 2) := dk_25 4 (dk_at dksX15_unify_3 5 rfl rfl)
theorem dX15_unify_91 : decode cX15_unify 91 = .ok (.invokevirtual 55, 3) := dk_182 0 55 (dk_at dksX15_unify_3 7 rfl rfl)
theorem dX15_unify_94 : decode cX15_unify 94 = .ok (.goto 129, 3) := dk_167 0 129 (dk_at dksX15_unify_3 10 rfl rfl)
theorem dX15_unify_97 : decode cX15_unify 97 = .ok (.aload_n 0, 1) := dk_42 (dk_at dksX15_unify_3 13 rfl rfl)
theorem dX15_unify_98 : decode cX15_unify 98 = .ok (.aload_n 3, 1) := dk_45 (dk_at dksX15_unify_3 14 rfl rfl)
theorem dX15_unify_99 : decode cX15_unify 99 = .ok (.invokevirtual 80, 3) := dk_182 0 80 (dk_at dksX15_unify_3 15 rfl rfl)
theorem dX15_unify_102 : decode cX15_unify 102 = .ok (.aload 4, 2) := dk_25 4 (dk_at dksX15_unify_3 18 rfl rfl)
theorem dX15_unify_104 : decode cX15_unify 104 = .ok (.invokevirtual 80, 3) := dk_182 0 80 (dk_at dksX15_unify_3 20 rfl rfl)
theorem dX15_unify_107 : decode cX15_unify 107 = .ok (.invokevirtual 55, 3) := dk_182 0 55 (dk_at dksX15_unify_4 0 rfl rfl)
theorem dX15_unify_110 : decode cX15_unify 110 = .ok (.goto 113, 3) := dk_167 0 113 (dk_at dksX15_unify_4 3 rfl rfl)
theorem dX15_unify_113 : decode cX15_unify 113 = .ok (.aload_n 0, 1) := dk_42 (dk_at dksX15_unify_4 6 rfl rfl)
theorem dX15_unify_114 : decode cX15_unify 114 = .ok (.aload_n 3, 1) := dk_45 (dk_at dksX15_unify_4 7 rfl rfl)
theorem dX15_unify_115 : decode cX15_unify 115 = .ok (.invokevirtual 80, 3) := dk_182 0 80 (dk_at dksX15_unify_4 8 rfl rfl)
theorem dX15_unify_118 : decode cX15_unify 118 = .ok (.aload 4, 2) := dk_25 4 (dk_at dksX15_unify_4 11 rfl rfl)
theorem dX15_unify_120 : decode cX15_unify 120 = .ok (.invokevirtual 80, 3) := dk_182 0 80 (dk_at dksX15_unify_4 13 rfl rfl)
theorem dX15_unify_123 : decode cX15_unify 123 = .ok (.invokevirtual 80, 3) := dk_182 0 80 (dk_at dksX15_unify_4 16 rfl rfl)
theorem dX15_unify_126 : decode cX15_unify 126 = .ok (.invokevirtual 55, 3) := dk_182 0 55 (dk_at dksX15_unify_4 19 rfl rfl)
theorem dX15_unify_129 : decode cX15_unify 129 = .ok (.goto 94, 3) := dk_167 0 94 (dk_at dksX15_unify_5 0 rfl rfl)
theorem dX15_unify_132 : decode cX15_unify 132 = .ok (.aload_n 0, 1) := dk_42 (dk_at dksX15_unify_5 3 rfl rfl)
theorem dX15_unify_133 : decode cX15_unify 133 = .ok (.aload_n 3, 1) := dk_45 (dk_at dksX15_unify_5 4 rfl rfl)
theorem dX15_unify_134 : decode cX15_unify 134 = .ok (.invokevirtual 80, 3) := dk_182 0 80 (dk_at dksX15_unify_5 5 rfl rfl)
theorem dX15_unify_137 : decode cX15_unify 137 = .ok (.invokevirtual 80, 3) := dk_182 0 80 (dk_at dksX15_unify_5 8 rfl rfl)
theorem dX15_unify_140 : decode cX15_unify 140 = .ok (.aload 4, 2) := dk_25 4 (dk_at dksX15_unify_5 11 rfl rfl)
theorem dX15_unify_142 : decode cX15_unify 142 = .ok (.invokevirtual 80, 3) := dk_182 0 80 (dk_at dksX15_unify_5 13 rfl rfl)
theorem dX15_unify_145 : decode cX15_unify 145 = .ok (.invokevirtual 55, 3) := dk_182 0 55 (dk_at dksX15_unify_5 16 rfl rfl)
theorem dX15_unify_148 : decode cX15_unify 148 = .ok (.goto 75, 3) := dk_167 0 75 (dk_at dksX15_unify_5 19 rfl rfl)
theorem dX15_unify_151 : decode cX15_unify 151 = .ok (.aload_n 0, 1) := dk_42 (dk_at dksX15_unify_5 22 rfl rfl)
theorem dX15_unify_152 : decode cX15_unify 152 = .ok (.aload_n 3, 1) := dk_45 (dk_at dksX15_unify_5 23 rfl rfl)
theorem dX15_unify_153 : decode cX15_unify 153 = .ok (.invokevirtual 80, 3) := dk_182 0 80 (dk_at dksX15_unify_6 0 rfl rfl)
theorem dX15_unify_156 : decode cX15_unify 156 = .ok (.aload_n 0, 1) := dk_42 (dk_at dksX15_unify_6 3 rfl rfl)
theorem dX15_unify_157 : decode cX15_unify 157 = .ok (.getfield 17, 3) := dk_180 0 17 (dk_at dksX15_unify_6 4 rfl rfl)
theorem dX15_unify_160 : decode cX15_unify 160 = .ok (.bipush 20, 2) := dk_16 20 (dk_at dksX15_unify_6 7 rfl rfl)
theorem dX15_unify_162 : decode cX15_unify 162 = .ok (.aload_n 1, 1) := dk_43 (dk_at dksX15_unify_6 9 rfl rfl)
theorem dX15_unify_163 : decode cX15_unify 163 = .ok (.getfield 82, 3) := dk_180 0 82 (dk_at dksX15_unify_6 10 rfl rfl)
theorem dX15_unify_166 : decode cX15_unify 166 = .ok (.iadd, 1) := dk_96 (dk_at dksX15_unify_6 13 rfl rfl)
theorem dX15_unify_167 : decode cX15_unify 167 = .ok (.aaload, 1) := dk_50 (dk_at dksX15_unify_6 14 rfl rfl)
theorem dX15_unify_168 : decode cX15_unify 168 = .ok (.invokevirtual 55, 3) := dk_182 0 55 (dk_at dksX15_unify_6 15 rfl rfl)
theorem dX15_unify_171 : decode cX15_unify 171 = .ok (.goto 52, 3) := dk_167 0 52 (dk_at dksX15_unify_6 18 rfl rfl)
theorem dX15_unify_174 : decode cX15_unify 174 = .ok (.aload_n 0, 1) := dk_42 (dk_at dksX15_unify_6 21 rfl rfl)
theorem dX15_unify_175 : decode cX15_unify 175 = .ok (.aload_n 0, 1) := dk_42 (dk_at dksX15_unify_6 22 rfl rfl)
theorem dX15_unify_176 : decode cX15_unify 176 = .ok (.getfield 17, 3) := dk_180 0 17 (dk_at dksX15_unify_7 0 rfl rfl)
theorem dX15_unify_179 : decode cX15_unify 179 = .ok (.aload_n 2, 1) := dk_44 (dk_at dksX15_unify_7 3 rfl rfl)
theorem dX15_unify_180 : decode cX15_unify 180 = .ok (.getfield 85, 3) := dk_180 0 85 (dk_at dksX15_unify_7 4 rfl rfl)
theorem dX15_unify_183 : decode cX15_unify 183 = .ok (.iconst 0, 1) := dk_3 (dk_at dksX15_unify_7 7 rfl rfl)
theorem dX15_unify_184 : decode cX15_unify 184 = .ok (.invokestatic 88, 3) := dk_184 0 88 (dk_at dksX15_unify_7 8 rfl rfl)
theorem dX15_unify_187 : decode cX15_unify 187 = .ok (.aaload, 1) := dk_50 (dk_at dksX15_unify_7 11 rfl rfl)
theorem dX15_unify_188 : decode cX15_unify 188 = .ok (.invokevirtual 80, 3) := dk_182 0 80 (dk_at dksX15_unify_7 12 rfl rfl)
theorem dX15_unify_191 : decode cX15_unify 191 = .ok (.aload 4, 2) := dk_25 4 (dk_at dksX15_unify_7 15 rfl rfl)
theorem dX15_unify_193 : decode cX15_unify 193 = .ok (.invokevirtual 80, 3) := dk_182 0 80 (dk_at dksX15_unify_7 17 rfl rfl)
theorem dX15_unify_196 : decode cX15_unify 196 = .ok (.invokevirtual 55, 3) := dk_182 0 55 (dk_at dksX15_unify_7 20 rfl rfl)
theorem dX15_unify_199 : decode cX15_unify 199 = .ok (.aload_n 0, 1) := dk_42 (dk_at dksX15_unify_7 23 rfl rfl)
theorem dX15_unify_200 : decode cX15_unify 200 = .ok (.aload_n 3, 1) := dk_45 (dk_at dksX15_unify_8 0 rfl rfl)
theorem dX15_unify_201 : decode cX15_unify 201 = .ok (.invokevirtual 80, 3) := dk_182 0 80 (dk_at dksX15_unify_8 1 rfl rfl)
theorem dX15_unify_204 : decode cX15_unify 204 = .ok (.aload_n 0, 1) := dk_42 (dk_at dksX15_unify_8 4 rfl rfl)
theorem dX15_unify_205 : decode cX15_unify 205 = .ok (.getfield 17, 3) := dk_180 0 17 (dk_at dksX15_unify_8 5 rfl rfl)
theorem dX15_unify_208 : decode cX15_unify 208 = .ok (.aload_n 2, 1) := dk_44 (dk_at dksX15_unify_8 8 rfl rfl)
theorem dX15_unify_209 : decode cX15_unify 209 = .ok (.getfield 85, 3) := dk_180 0 85 (dk_at dksX15_unify_8 9 rfl rfl)
theorem dX15_unify_212 : decode cX15_unify 212 = .ok (.iconst 1, 1) := dk_4 (dk_at dksX15_unify_8 12 rfl rfl)
theorem dX15_unify_213 : decode cX15_unify 213 = .ok (.invokestatic 88, 3) := dk_184 0 88 (dk_at dksX15_unify_8 13 rfl rfl)
theorem dX15_unify_216 : decode cX15_unify 216 = .ok (.aaload, 1) := dk_50 (dk_at dksX15_unify_8 16 rfl rfl)
theorem dX15_unify_217 : decode cX15_unify 217 = .ok (.invokevirtual 80, 3) := dk_182 0 80 (dk_at dksX15_unify_8 17 rfl rfl)
theorem dX15_unify_220 : decode cX15_unify 220 = .ok (.invokevirtual 55, 3) := dk_182 0 55 (dk_at dksX15_unify_8 20 rfl rfl)
theorem dX15_unify_223 : decode cX15_unify 223 = .ok (.return_, 1) := dk_177 (dk_at dksX15_unify_8 23 rfl rfl)
abbrev cX15_join : ByteArray := prog_19_method_2_code
def yX15_join : MethodName := ⟨RX15, "join", "(LPointerAnalyzer$Term;LPointerAnalyzer$Term;)V"⟩
def dkwX15_join_2 : List UInt8 := [198, 0, 16, 42, 45, 180, 0, 52, 25, 4, 180, 0, 52, 182, 0, 55, 177]
abbrev dktX15_join_2 : List UInt8 := dkwX15_join_2 ++ []
def dkwX15_join_1 : List UInt8 := [45, 180, 0, 52, 199, 0, 15, 45, 25, 4, 180, 0, 52, 181, 0, 52, 167, 0, 24, 25, 4, 180, 0, 52]
abbrev dktX15_join_1 : List UInt8 := dkwX15_join_1 ++ dktX15_join_2
def dkwX15_join_0 : List UInt8 := [43, 182, 0, 44, 78, 44, 182, 0, 44, 58, 4, 45, 25, 4, 166, 0, 4, 177, 25, 4, 45, 181, 0, 48]
abbrev dktX15_join_0 : List UInt8 := dkwX15_join_0 ++ dktX15_join_1
theorem dksX15_join_0 : cX15_join.data.toList.drop 0 = dktX15_join_0 := by decide +kernel
theorem dksX15_join_1 : cX15_join.data.toList.drop 24 = dktX15_join_1 := dk_seg dksX15_join_0 24 rfl rfl
theorem dksX15_join_2 : cX15_join.data.toList.drop 48 = dktX15_join_2 := dk_seg dksX15_join_1 24 rfl rfl
theorem dX15_join_0 : decode cX15_join 0 = .ok (.aload_n 1, 1) := dk_43 (dk_at dksX15_join_0 0 rfl rfl)
theorem dX15_join_1 : decode cX15_join 1 = .ok (.invokevirtual 44, 3) := dk_182 0 44 (dk_at dksX15_join_0 1 rfl rfl)
theorem dX15_join_4 : decode cX15_join 4 = .ok (.astore_n 3, 1) := dk_78 (dk_at dksX15_join_0 4 rfl rfl)
theorem dX15_join_5 : decode cX15_join 5 = .ok (.aload_n 2, 1) := dk_44 (dk_at dksX15_join_0 5 rfl rfl)
theorem dX15_join_6 : decode cX15_join 6 = .ok (.invokevirtual 44, 3) := dk_182 0 44 (dk_at dksX15_join_0 6 rfl rfl)
theorem dX15_join_9 : decode cX15_join 9 = .ok (.astore 4, 2) := dk_58 4 (dk_at dksX15_join_0 9 rfl rfl)
theorem dX15_join_11 : decode cX15_join 11 = .ok (.aload_n 3, 1) := dk_45 (dk_at dksX15_join_0 11 rfl rfl)
theorem dX15_join_12 : decode cX15_join 12 = .ok (.aload 4, 2) := dk_25 4 (dk_at dksX15_join_0 12 rfl rfl)
theorem dX15_join_14 : decode cX15_join 14 = .ok (.if_acmp .ne 4, 3) := dk_166 0 4 (dk_at dksX15_join_0 14 rfl rfl)
theorem dX15_join_17 : decode cX15_join 17 = .ok (.return_, 1) := dk_177 (dk_at dksX15_join_0 17 rfl rfl)
theorem dX15_join_18 : decode cX15_join 18 = .ok (.aload 4, 2) := dk_25 4 (dk_at dksX15_join_0 18 rfl rfl)
theorem dX15_join_20 : decode cX15_join 20 = .ok (.aload_n 3, 1) := dk_45 (dk_at dksX15_join_0 20 rfl rfl)
theorem dX15_join_21 : decode cX15_join 21 = .ok (.putfield 48, 3) := dk_181 0 48 (dk_at dksX15_join_0 21 rfl rfl)
theorem dX15_join_24 : decode cX15_join 24 = .ok (.aload_n 3, 1) := dk_45 (dk_at dksX15_join_1 0 rfl rfl)
theorem dX15_join_25 : decode cX15_join 25 = .ok (.getfield 52, 3) := dk_180 0 52 (dk_at dksX15_join_1 1 rfl rfl)
theorem dX15_join_28 : decode cX15_join 28 = .ok (.ifnonnull 15, 3) := dk_199 0 15 (dk_at dksX15_join_1 4 rfl rfl)
theorem dX15_join_31 : decode cX15_join 31 = .ok (.aload_n 3, 1) := dk_45 (dk_at dksX15_join_1 7 rfl rfl)
theorem dX15_join_32 : decode cX15_join 32 = .ok (.aload 4, 2) := dk_25 4 (dk_at dksX15_join_1 8 rfl rfl)
theorem dX15_join_34 : decode cX15_join 34 = .ok (.getfield 52, 3) := dk_180 0 52 (dk_at dksX15_join_1 10 rfl rfl)
theorem dX15_join_37 : decode cX15_join 37 = .ok (.putfield 52, 3) := dk_181 0 52 (dk_at dksX15_join_1 13 rfl rfl)
theorem dX15_join_40 : decode cX15_join 40 = .ok (.goto 24, 3) := dk_167 0 24 (dk_at dksX15_join_1 16 rfl rfl)
theorem dX15_join_43 : decode cX15_join 43 = .ok (.aload 4, 2) := dk_25 4 (dk_at dksX15_join_1 19 rfl rfl)
theorem dX15_join_45 : decode cX15_join 45 = .ok (.getfield 52, 3) := dk_180 0 52 (dk_at dksX15_join_1 21 rfl rfl)
theorem dX15_join_48 : decode cX15_join 48 = .ok (.ifnull 16, 3) := dk_198 0 16 (dk_at dksX15_join_2 0 rfl rfl)
theorem dX15_join_51 : decode cX15_join 51 = .ok (.aload_n 0, 1) := dk_42 (dk_at dksX15_join_2 3 rfl rfl)
theorem dX15_join_52 : decode cX15_join 52 = .ok (.aload_n 3, 1) := dk_45 (dk_at dksX15_join_2 4 rfl rfl)
theorem dX15_join_53 : decode cX15_join 53 = .ok (.getfield 52, 3) := dk_180 0 52 (dk_at dksX15_join_2 5 rfl rfl)
theorem dX15_join_56 : decode cX15_join 56 = .ok (.aload 4, 2) := dk_25 4 (dk_at dksX15_join_2 8 rfl rfl)
theorem dX15_join_58 : decode cX15_join 58 = .ok (.getfield 52, 3) := dk_180 0 52 (dk_at dksX15_join_2 10 rfl rfl)
theorem dX15_join_61 : decode cX15_join 61 = .ok (.invokevirtual 55, 3) := dk_182 0 55 (dk_at dksX15_join_2 13 rfl rfl)
theorem dX15_join_64 : decode cX15_join 64 = .ok (.return_, 1) := dk_177 (dk_at dksX15_join_2 16 rfl rfl)
abbrev cX15_countClasses : ByteArray := prog_19_method_5_code
def yX15_countClasses : MethodName := ⟨RX15, "countClasses", "()I"⟩
def dkwX15_countClasses_3 : List UInt8 := [132, 2, 1, 167, 255, 185, 27, 172]
abbrev dktX15_countClasses_3 : List UInt8 := dkwX15_countClasses_3 ++ []
def dkwX15_countClasses_2 : List UInt8 := [167, 0, 4, 3, 126, 62, 132, 4, 1, 167, 255, 217, 27, 29, 153, 0, 7, 4, 167, 0, 4, 3, 96, 60]
abbrev dktX15_countClasses_2 : List UInt8 := dkwX15_countClasses_2 ++ dktX15_countClasses_3
def dkwX15_countClasses_1 : List UInt8 := [29, 42, 180, 0, 17, 21, 4, 50, 182, 0, 44, 42, 180, 0, 17, 28, 50, 182, 0, 44, 165, 0, 7, 4]
abbrev dktX15_countClasses_1 : List UInt8 := dkwX15_countClasses_1 ++ dktX15_countClasses_2
def dkwX15_countClasses_0 : List UInt8 := [3, 60, 3, 61, 28, 42, 180, 0, 17, 190, 162, 0, 68, 4, 62, 3, 54, 4, 21, 4, 28, 162, 0, 39]
abbrev dktX15_countClasses_0 : List UInt8 := dkwX15_countClasses_0 ++ dktX15_countClasses_1
theorem dksX15_countClasses_0 : cX15_countClasses.data.toList.drop 0 = dktX15_countClasses_0 := by decide +kernel
theorem dksX15_countClasses_1 : cX15_countClasses.data.toList.drop 24 = dktX15_countClasses_1 := dk_seg dksX15_countClasses_0 24 rfl rfl
theorem dksX15_countClasses_2 : cX15_countClasses.data.toList.drop 48 = dktX15_countClasses_2 := dk_seg dksX15_countClasses_1 24 rfl rfl
theorem dksX15_countClasses_3 : cX15_countClasses.data.toList.drop 72 = dktX15_countClasses_3 := dk_seg dksX15_countClasses_2 24 rfl rfl
theorem dX15_countClasses_0 : decode cX15_countClasses 0 = .ok (.iconst 0, 1) := dk_3 (dk_at dksX15_countClasses_0 0 rfl rfl)
theorem dX15_countClasses_1 : decode cX15_countClasses 1 = .ok (.istore_n 1, 1) := dk_60 (dk_at dksX15_countClasses_0 1 rfl rfl)
theorem dX15_countClasses_2 : decode cX15_countClasses 2 = .ok (.iconst 0, 1) := dk_3 (dk_at dksX15_countClasses_0 2 rfl rfl)
theorem dX15_countClasses_3 : decode cX15_countClasses 3 = .ok (.istore_n 2, 1) := dk_61 (dk_at dksX15_countClasses_0 3 rfl rfl)
theorem dX15_countClasses_4 : decode cX15_countClasses 4 = .ok (.iload_n 2, 1) := dk_28 (dk_at dksX15_countClasses_0 4 rfl rfl)
theorem dX15_countClasses_5 : decode cX15_countClasses 5 = .ok (.aload_n 0, 1) := dk_42 (dk_at dksX15_countClasses_0 5 rfl rfl)
theorem dX15_countClasses_6 : decode cX15_countClasses 6 = .ok (.getfield 17, 3) := dk_180 0 17 (dk_at dksX15_countClasses_0 6 rfl rfl)
theorem dX15_countClasses_9 : decode cX15_countClasses 9 = .ok (.arraylength, 1) := dk_190 (dk_at dksX15_countClasses_0 9 rfl rfl)
theorem dX15_countClasses_10 : decode cX15_countClasses 10 = .ok (.if_icmp .ge 68, 3) := dk_162 0 68 (dk_at dksX15_countClasses_0 10 rfl rfl)
theorem dX15_countClasses_13 : decode cX15_countClasses 13 = .ok (.iconst 1, 1) := dk_4 (dk_at dksX15_countClasses_0 13 rfl rfl)
theorem dX15_countClasses_14 : decode cX15_countClasses 14 = .ok (.istore_n 3, 1) := dk_62 (dk_at dksX15_countClasses_0 14 rfl rfl)
theorem dX15_countClasses_15 : decode cX15_countClasses 15 = .ok (.iconst 0, 1) := dk_3 (dk_at dksX15_countClasses_0 15 rfl rfl)
theorem dX15_countClasses_16 : decode cX15_countClasses 16 = .ok (.istore 4, 2) := dk_54 4 (dk_at dksX15_countClasses_0 16 rfl rfl)
theorem dX15_countClasses_18 : decode cX15_countClasses 18 = .ok (.iload 4, 2) := dk_21 4 (dk_at dksX15_countClasses_0 18 rfl rfl)
theorem dX15_countClasses_20 : decode cX15_countClasses 20 = .ok (.iload_n 2, 1) := dk_28 (dk_at dksX15_countClasses_0 20 rfl rfl)
theorem dX15_countClasses_21 : decode cX15_countClasses 21 = .ok (.if_icmp .ge 39, 3) := dk_162 0 39 (dk_at dksX15_countClasses_0 21 rfl rfl)
theorem dX15_countClasses_24 : decode cX15_countClasses 24 = .ok (.iload_n 3, 1) := dk_29 (dk_at dksX15_countClasses_1 0 rfl rfl)
theorem dX15_countClasses_25 : decode cX15_countClasses 25 = .ok (.aload_n 0, 1) := dk_42 (dk_at dksX15_countClasses_1 1 rfl rfl)
theorem dX15_countClasses_26 : decode cX15_countClasses 26 = .ok (.getfield 17, 3) := dk_180 0 17 (dk_at dksX15_countClasses_1 2 rfl rfl)
theorem dX15_countClasses_29 : decode cX15_countClasses 29 = .ok (.iload 4, 2) := dk_21 4 (dk_at dksX15_countClasses_1 5 rfl rfl)
theorem dX15_countClasses_31 : decode cX15_countClasses 31 = .ok (.aaload, 1) := dk_50 (dk_at dksX15_countClasses_1 7 rfl rfl)
theorem dX15_countClasses_32 : decode cX15_countClasses 32 = .ok (.invokevirtual 44, 3) := dk_182 0 44 (dk_at dksX15_countClasses_1 8 rfl rfl)
theorem dX15_countClasses_35 : decode cX15_countClasses 35 = .ok (.aload_n 0, 1) := dk_42 (dk_at dksX15_countClasses_1 11 rfl rfl)
theorem dX15_countClasses_36 : decode cX15_countClasses 36 = .ok (.getfield 17, 3) := dk_180 0 17 (dk_at dksX15_countClasses_1 12 rfl rfl)
theorem dX15_countClasses_39 : decode cX15_countClasses 39 = .ok (.iload_n 2, 1) := dk_28 (dk_at dksX15_countClasses_1 15 rfl rfl)
theorem dX15_countClasses_40 : decode cX15_countClasses 40 = .ok (.aaload, 1) := dk_50 (dk_at dksX15_countClasses_1 16 rfl rfl)
theorem dX15_countClasses_41 : decode cX15_countClasses 41 = .ok (.invokevirtual 44, 3) := dk_182 0 44 (dk_at dksX15_countClasses_1 17 rfl rfl)
theorem dX15_countClasses_44 : decode cX15_countClasses 44 = .ok (.if_acmp .eq 7, 3) := dk_165 0 7 (dk_at dksX15_countClasses_1 20 rfl rfl)
theorem dX15_countClasses_47 : decode cX15_countClasses 47 = .ok (.iconst 1, 1) := dk_4 (dk_at dksX15_countClasses_1 23 rfl rfl)
theorem dX15_countClasses_48 : decode cX15_countClasses 48 = .ok (.goto 4, 3) := dk_167 0 4 (dk_at dksX15_countClasses_2 0 rfl rfl)
theorem dX15_countClasses_51 : decode cX15_countClasses 51 = .ok (.iconst 0, 1) := dk_3 (dk_at dksX15_countClasses_2 3 rfl rfl)
theorem dX15_countClasses_52 : decode cX15_countClasses 52 = .ok (.iand, 1) := dk_126 (dk_at dksX15_countClasses_2 4 rfl rfl)
theorem dX15_countClasses_53 : decode cX15_countClasses 53 = .ok (.istore_n 3, 1) := dk_62 (dk_at dksX15_countClasses_2 5 rfl rfl)
theorem dX15_countClasses_54 : decode cX15_countClasses 54 = .ok (.iinc 4 1, 3) := dk_132 4 1 (dk_at dksX15_countClasses_2 6 rfl rfl)
theorem dX15_countClasses_57 : decode cX15_countClasses 57 = .ok (.goto (-39), 3) := dk_167 255 217 (dk_at dksX15_countClasses_2 9 rfl rfl)
theorem dX15_countClasses_60 : decode cX15_countClasses 60 = .ok (.iload_n 1, 1) := dk_27 (dk_at dksX15_countClasses_2 12 rfl rfl)
theorem dX15_countClasses_61 : decode cX15_countClasses 61 = .ok (.iload_n 3, 1) := dk_29 (dk_at dksX15_countClasses_2 13 rfl rfl)
theorem dX15_countClasses_62 : decode cX15_countClasses 62 = .ok (.ifCond .eq 7, 3) := dk_153 0 7 (dk_at dksX15_countClasses_2 14 rfl rfl)
theorem dX15_countClasses_65 : decode cX15_countClasses 65 = .ok (.iconst 1, 1) := dk_4 (dk_at dksX15_countClasses_2 17 rfl rfl)
theorem dX15_countClasses_66 : decode cX15_countClasses 66 = .ok (.goto 4, 3) := dk_167 0 4 (dk_at dksX15_countClasses_2 18 rfl rfl)
theorem dX15_countClasses_69 : decode cX15_countClasses 69 = .ok (.iconst 0, 1) := dk_3 (dk_at dksX15_countClasses_2 21 rfl rfl)
theorem dX15_countClasses_70 : decode cX15_countClasses 70 = .ok (.iadd, 1) := dk_96 (dk_at dksX15_countClasses_2 22 rfl rfl)
theorem dX15_countClasses_71 : decode cX15_countClasses 71 = .ok (.istore_n 1, 1) := dk_60 (dk_at dksX15_countClasses_2 23 rfl rfl)
theorem dX15_countClasses_72 : decode cX15_countClasses 72 = .ok (.iinc 2 1, 3) := dk_132 2 1 (dk_at dksX15_countClasses_3 0 rfl rfl)
theorem dX15_countClasses_75 : decode cX15_countClasses 75 = .ok (.goto (-71), 3) := dk_167 255 185 (dk_at dksX15_countClasses_3 3 rfl rfl)
theorem dX15_countClasses_78 : decode cX15_countClasses 78 = .ok (.iload_n 1, 1) := dk_27 (dk_at dksX15_countClasses_3 6 rfl rfl)
theorem dX15_countClasses_79 : decode cX15_countClasses 79 = .ok (.ireturn, 1) := dk_172 (dk_at dksX15_countClasses_3 7 rfl rfl)
abbrev cX15_targets : ByteArray := prog_19_method_4_code
def yX15_targets : MethodName := ⟨RX15, "targets", "(I)J"⟩
def dkwX15_targets_4 : List UInt8 := [66, 132, 5, 1, 167, 255, 176, 33, 173]
abbrev dktX15_targets_4 : List UInt8 := dkwX15_targets_4 ++ []
def dkwX15_targets_3 : List UInt8 := [162, 0, 10, 10, 21, 5, 121, 167, 0, 16, 20, 0, 92, 21, 5, 16, 20, 100, 3, 184, 0, 94, 121, 129]
abbrev dktX15_targets_3 : List UInt8 := dkwX15_targets_3 ++ dktX15_targets_4
def dkwX15_targets_2 : List UInt8 := [166, 0, 7, 4, 167, 0, 4, 3, 54, 6, 33, 21, 6, 154, 0, 7, 9, 167, 0, 30, 21, 5, 16, 20]
abbrev dktX15_targets_2 : List UInt8 := dkwX15_targets_2 ++ dktX15_targets_3
def dkwX15_targets_1 : List UInt8 := [190, 162, 0, 76, 44, 198, 0, 72, 42, 180, 0, 17, 21, 5, 50, 182, 0, 44, 44, 182, 0, 44]
abbrev dktX15_targets_1 : List UInt8 := dkwX15_targets_1 ++ dktX15_targets_2
def dkwX15_targets_0 : List UInt8 := [42, 180, 0, 17, 27, 50, 182, 0, 44, 180, 0, 52, 77, 9, 66, 3, 54, 5, 21, 5, 42, 180, 0, 17]
abbrev dktX15_targets_0 : List UInt8 := dkwX15_targets_0 ++ dktX15_targets_1
theorem dksX15_targets_0 : cX15_targets.data.toList.drop 0 = dktX15_targets_0 := by decide +kernel
theorem dksX15_targets_1 : cX15_targets.data.toList.drop 24 = dktX15_targets_1 := dk_seg dksX15_targets_0 24 rfl rfl
theorem dksX15_targets_2 : cX15_targets.data.toList.drop 46 = dktX15_targets_2 := dk_seg dksX15_targets_1 22 rfl rfl
theorem dksX15_targets_3 : cX15_targets.data.toList.drop 70 = dktX15_targets_3 := dk_seg dksX15_targets_2 24 rfl rfl
theorem dksX15_targets_4 : cX15_targets.data.toList.drop 94 = dktX15_targets_4 := dk_seg dksX15_targets_3 24 rfl rfl
theorem dX15_targets_0 : decode cX15_targets 0 = .ok (.aload_n 0, 1) := dk_42 (dk_at dksX15_targets_0 0 rfl rfl)
theorem dX15_targets_1 : decode cX15_targets 1 = .ok (.getfield 17, 3) := dk_180 0 17 (dk_at dksX15_targets_0 1 rfl rfl)
theorem dX15_targets_4 : decode cX15_targets 4 = .ok (.iload_n 1, 1) := dk_27 (dk_at dksX15_targets_0 4 rfl rfl)
theorem dX15_targets_5 : decode cX15_targets 5 = .ok (.aaload, 1) := dk_50 (dk_at dksX15_targets_0 5 rfl rfl)
theorem dX15_targets_6 : decode cX15_targets 6 = .ok (.invokevirtual 44, 3) := dk_182 0 44 (dk_at dksX15_targets_0 6 rfl rfl)
theorem dX15_targets_9 : decode cX15_targets 9 = .ok (.getfield 52, 3) := dk_180 0 52 (dk_at dksX15_targets_0 9 rfl rfl)
theorem dX15_targets_12 : decode cX15_targets 12 = .ok (.astore_n 2, 1) := dk_77 (dk_at dksX15_targets_0 12 rfl rfl)
theorem dX15_targets_13 : decode cX15_targets 13 = .ok (.lconst 0, 1) := dk_9 (dk_at dksX15_targets_0 13 rfl rfl)
theorem dX15_targets_14 : decode cX15_targets 14 = .ok (.lstore_n 3, 1) := dk_66 (dk_at dksX15_targets_0 14 rfl rfl)
theorem dX15_targets_15 : decode cX15_targets 15 = .ok (.iconst 0, 1) := dk_3 (dk_at dksX15_targets_0 15 rfl rfl)
theorem dX15_targets_16 : decode cX15_targets 16 = .ok (.istore 5, 2) := dk_54 5 (dk_at dksX15_targets_0 16 rfl rfl)
theorem dX15_targets_18 : decode cX15_targets 18 = .ok (.iload 5, 2) := dk_21 5 (dk_at dksX15_targets_0 18 rfl rfl)
theorem dX15_targets_20 : decode cX15_targets 20 = .ok (.aload_n 0, 1) := dk_42 (dk_at dksX15_targets_0 20 rfl rfl)
theorem dX15_targets_21 : decode cX15_targets 21 = .ok (.getfield 17, 3) := dk_180 0 17 (dk_at dksX15_targets_0 21 rfl rfl)
theorem dX15_targets_24 : decode cX15_targets 24 = .ok (.arraylength, 1) := dk_190 (dk_at dksX15_targets_1 0 rfl rfl)
theorem dX15_targets_25 : decode cX15_targets 25 = .ok (.if_icmp .ge 76, 3) := dk_162 0 76 (dk_at dksX15_targets_1 1 rfl rfl)
theorem dX15_targets_28 : decode cX15_targets 28 = .ok (.aload_n 2, 1) := dk_44 (dk_at dksX15_targets_1 4 rfl rfl)
theorem dX15_targets_29 : decode cX15_targets 29 = .ok (.ifnull 72, 3) := dk_198 0 72 (dk_at dksX15_targets_1 5 rfl rfl)
theorem dX15_targets_32 : decode cX15_targets 32 = .ok (.aload_n 0, 1) := dk_42 (dk_at dksX15_targets_1 8 rfl rfl)
theorem dX15_targets_33 : decode cX15_targets 33 = .ok (.getfield 17, 3) := dk_180 0 17 (dk_at dksX15_targets_1 9 rfl rfl)
theorem dX15_targets_36 : decode cX15_targets 36 = .ok (.iload 5, 2) := dk_21 5 (dk_at dksX15_targets_1 12 rfl rfl)
theorem dX15_targets_38 : decode cX15_targets 38 = .ok (.aaload, 1) := dk_50 (dk_at dksX15_targets_1 14 rfl rfl)
theorem dX15_targets_39 : decode cX15_targets 39 = .ok (.invokevirtual 44, 3) := dk_182 0 44 (dk_at dksX15_targets_1 15 rfl rfl)
theorem dX15_targets_42 : decode cX15_targets 42 = .ok (.aload_n 2, 1) := dk_44 (dk_at dksX15_targets_1 18 rfl rfl)
theorem dX15_targets_43 : decode cX15_targets 43 = .ok (.invokevirtual 44, 3) := dk_182 0 44 (dk_at dksX15_targets_1 19 rfl rfl)
theorem dX15_targets_46 : decode cX15_targets 46 = .ok (.if_acmp .ne 7, 3) := dk_166 0 7 (dk_at dksX15_targets_2 0 rfl rfl)
theorem dX15_targets_49 : decode cX15_targets 49 = .ok (.iconst 1, 1) := dk_4 (dk_at dksX15_targets_2 3 rfl rfl)
theorem dX15_targets_50 : decode cX15_targets 50 = .ok (.goto 4, 3) := dk_167 0 4 (dk_at dksX15_targets_2 4 rfl rfl)
theorem dX15_targets_53 : decode cX15_targets 53 = .ok (.iconst 0, 1) := dk_3 (dk_at dksX15_targets_2 7 rfl rfl)
theorem dX15_targets_54 : decode cX15_targets 54 = .ok (.istore 6, 2) := dk_54 6 (dk_at dksX15_targets_2 8 rfl rfl)
theorem dX15_targets_56 : decode cX15_targets 56 = .ok (.lload_n 3, 1) := dk_33 (dk_at dksX15_targets_2 10 rfl rfl)
theorem dX15_targets_57 : decode cX15_targets 57 = .ok (.iload 6, 2) := dk_21 6 (dk_at dksX15_targets_2 11 rfl rfl)
theorem dX15_targets_59 : decode cX15_targets 59 = .ok (.ifCond .ne 7, 3) := dk_154 0 7 (dk_at dksX15_targets_2 13 rfl rfl)
theorem dX15_targets_62 : decode cX15_targets 62 = .ok (.lconst 0, 1) := dk_9 (dk_at dksX15_targets_2 16 rfl rfl)
theorem dX15_targets_63 : decode cX15_targets 63 = .ok (.goto 30, 3) := dk_167 0 30 (dk_at dksX15_targets_2 17 rfl rfl)
theorem dX15_targets_66 : decode cX15_targets 66 = .ok (.iload 5, 2) := dk_21 5 (dk_at dksX15_targets_2 20 rfl rfl)
theorem dX15_targets_68 : decode cX15_targets 68 = .ok (.bipush 20, 2) := dk_16 20 (dk_at dksX15_targets_2 22 rfl rfl)
theorem dX15_targets_70 : decode cX15_targets 70 = .ok (.if_icmp .ge 10, 3) := dk_162 0 10 (dk_at dksX15_targets_3 0 rfl rfl)
theorem dX15_targets_73 : decode cX15_targets 73 = .ok (.lconst 1, 1) := dk_10 (dk_at dksX15_targets_3 3 rfl rfl)
theorem dX15_targets_74 : decode cX15_targets 74 = .ok (.iload 5, 2) := dk_21 5 (dk_at dksX15_targets_3 4 rfl rfl)
theorem dX15_targets_76 : decode cX15_targets 76 = .ok (.lshl, 1) := dk_121 (dk_at dksX15_targets_3 6 rfl rfl)
theorem dX15_targets_77 : decode cX15_targets 77 = .ok (.goto 16, 3) := dk_167 0 16 (dk_at dksX15_targets_3 7 rfl rfl)
theorem dX15_targets_80 : decode cX15_targets 80 = .ok (.ldc2_w 92, 3) := dk_20 0 92 (dk_at dksX15_targets_3 10 rfl rfl)
theorem dX15_targets_83 : decode cX15_targets 83 = .ok (.iload 5, 2) := dk_21 5 (dk_at dksX15_targets_3 13 rfl rfl)
theorem dX15_targets_85 : decode cX15_targets 85 = .ok (.bipush 20, 2) := dk_16 20 (dk_at dksX15_targets_3 15 rfl rfl)
theorem dX15_targets_87 : decode cX15_targets 87 = .ok (.isub, 1) := dk_100 (dk_at dksX15_targets_3 17 rfl rfl)
theorem dX15_targets_88 : decode cX15_targets 88 = .ok (.iconst 0, 1) := dk_3 (dk_at dksX15_targets_3 18 rfl rfl)
theorem dX15_targets_89 : decode cX15_targets 89 = .ok (.invokestatic 94, 3) := dk_184 0 94 (dk_at dksX15_targets_3 19 rfl rfl)
theorem dX15_targets_92 : decode cX15_targets 92 = .ok (.lshl, 1) := dk_121 (dk_at dksX15_targets_3 22 rfl rfl)
theorem dX15_targets_93 : decode cX15_targets 93 = .ok (.lor, 1) := dk_129 (dk_at dksX15_targets_3 23 rfl rfl)
theorem dX15_targets_94 : decode cX15_targets 94 = .ok (.lstore_n 3, 1) := dk_66 (dk_at dksX15_targets_4 0 rfl rfl)
theorem dX15_targets_95 : decode cX15_targets 95 = .ok (.iinc 5 1, 3) := dk_132 5 1 (dk_at dksX15_targets_4 1 rfl rfl)
theorem dX15_targets_98 : decode cX15_targets 98 = .ok (.goto (-80), 3) := dk_167 255 176 (dk_at dksX15_targets_4 4 rfl rfl)
theorem dX15_targets_101 : decode cX15_targets 101 = .ok (.lload_n 3, 1) := dk_33 (dk_at dksX15_targets_4 7 rfl rfl)
theorem dX15_targets_102 : decode cX15_targets 102 = .ok (.lreturn, 1) := dk_173 (dk_at dksX15_targets_4 8 rfl rfl)
theorem q184 : (Jvm.Cond.initialized "PointerAnalyzer$Unification") ∈ lw_all := lw_g (lw_at lw_m1 62 rfl) rfl
theorem q356 : (Jvm.Cond.selects "PointerAnalyzer$Unification" ({ cls := "java/lang/Object", name := "getClass", desc := "()Ljava/lang/Class;" } : Jvm.MethodName) ({ cls := "java/lang/Object", name := "getClass", desc := "()Ljava/lang/Class;" } : Jvm.MethodName)) ∈ lw_all := lw_g (lw_at lw_m1 234 rfl) rfl
theorem q700 : (Jvm.Cond.fieldLinkNest "PointerAnalyzer$Unification" (24 : Nat) "PointerAnalyzer$Program" "statements" "Ljava/util/ArrayList;" "PointerAnalyzer") ∈ lw_tbl := lw_at lw_m3 98 rfl
theorem q706 : (Jvm.Cond.fieldLinkNest "PointerAnalyzer$Unification" (9 : Nat) "PointerAnalyzer$Program" "sites" "I" "PointerAnalyzer") ∈ lw_tbl := lw_at lw_m3 104 rfl
theorem q779 : (Jvm.Cond.selects "PointerAnalyzer$Unification" ({ cls := "java/lang/Object", name := "equals", desc := "(Ljava/lang/Object;)Z" } : Jvm.MethodName) ({ cls := "java/lang/Object", name := "equals", desc := "(Ljava/lang/Object;)Z" } : Jvm.MethodName)) ∈ lw_all := lw_g (lw_at lw_m3 177 rfl) rfl
theorem q1184 : (Jvm.Cond.fieldLinkNest "PointerAnalyzer$Unification" (59 : Nat) "PointerAnalyzer$Statement" "line" "LPointerAnalyzer$Line;" "PointerAnalyzer") ∈ lw_tbl := lw_at lw_m5 102 rfl
theorem q1190 : (Jvm.Cond.fieldLinkNest "PointerAnalyzer$Unification" (82 : Nat) "PointerAnalyzer$Statement" "site" "I" "PointerAnalyzer") ∈ lw_tbl := lw_at lw_m5 108 rfl
theorem q2205 : (Jvm.Cond.instantiable "PointerAnalyzer$Unification" (1 : Nat)) ∈ lw_all := lw_g (lw_at lw_m9 163 rfl) rfl
theorem q2207 : (Jvm.Cond.instanceMethod ({ cls := "PointerAnalyzer$Unification", name := "<init>", desc := "(LPointerAnalyzer$Program;)V" } : Jvm.MethodName)) ∈ lw_all := lw_g (lw_at lw_m9 165 rfl) rfl
theorem q2208 : (Jvm.Cond.code ({ cls := "PointerAnalyzer$Unification", name := "<init>", desc := "(LPointerAnalyzer$Program;)V" } : Jvm.MethodName) prog_19_method_1_code (3 : Nat) (Option.none : Option Jvm.ClassFile.FieldType)) ∈ lw_all := lw_g (lw_at lw_m9 166 rfl) rfl
theorem q2209 : (Jvm.Cond.methodLink "PointerAnalyzer$Unification" (3 : Nat) ({ cls := "java/lang/Object", name := "<init>", desc := "()V" } : Jvm.MethodName)) ∈ lw_all := lw_g (lw_at lw_m9 167 rfl) rfl
theorem q2210 : (Jvm.Cond.classLink "PointerAnalyzer$Unification" (15 : Nat) "PointerAnalyzer$Term") ∈ lw_all := lw_g (lw_at lw_m9 168 rfl) rfl
theorem q2213 : (Jvm.Cond.methodLinkNest "PointerAnalyzer$Unification" (23 : Nat) ({ cls := "PointerAnalyzer$Term", name := "<init>", desc := "()V" } : Jvm.MethodName) "PointerAnalyzer") ∈ lw_tbl := lw_at lw_m9 171 rfl
theorem q2218 : (Jvm.Cond.fieldLinkNest "PointerAnalyzer$Unification" (48 : Nat) "PointerAnalyzer$Term" "parent" "LPointerAnalyzer$Term;" "PointerAnalyzer") ∈ lw_tbl := lw_at lw_m9 176 rfl
theorem q2219 : (Jvm.Cond.fieldLinkNest "PointerAnalyzer$Unification" (52 : Nat) "PointerAnalyzer$Term" "target" "LPointerAnalyzer$Term;" "PointerAnalyzer") ∈ lw_tbl := lw_at lw_m9 177 rfl
theorem q2226 : (Jvm.Cond.methodLink "PointerAnalyzer$Unification" (28 : Nat) ({ cls := "java/util/ArrayList", name := "size", desc := "()I" } : Jvm.MethodName)) ∈ lw_all := lw_g (lw_at lw_m9 184 rfl) rfl
theorem q2227 : (Jvm.Cond.methodLink "PointerAnalyzer$Unification" (34 : Nat) ({ cls := "java/util/ArrayList", name := "get", desc := "(I)Ljava/lang/Object;" } : Jvm.MethodName)) ∈ lw_all := lw_g (lw_at lw_m9 185 rfl) rfl
theorem q2228 : (Jvm.Cond.classLink "PointerAnalyzer$Unification" (38 : Nat) "PointerAnalyzer$Statement") ∈ lw_all := lw_g (lw_at lw_m9 186 rfl) rfl
theorem q2229 : (Jvm.Cond.methodLink "PointerAnalyzer$Unification" (40 : Nat) ({ cls := "PointerAnalyzer$Unification", name := "unify", desc := "(LPointerAnalyzer$Statement;)V" } : Jvm.MethodName)) ∈ lw_all := lw_g (lw_at lw_m9 187 rfl) rfl
theorem q2230 : (Jvm.Cond.privateMethod ({ cls := "PointerAnalyzer$Unification", name := "unify", desc := "(LPointerAnalyzer$Statement;)V" } : Jvm.MethodName)) ∈ lw_tbl := lw_at lw_m9 188 rfl
theorem q2231 : (Jvm.Cond.instanceMethod ({ cls := "PointerAnalyzer$Unification", name := "unify", desc := "(LPointerAnalyzer$Statement;)V" } : Jvm.MethodName)) ∈ lw_all := lw_g (lw_at lw_m9 189 rfl) rfl
theorem q2232 : (Jvm.Cond.code ({ cls := "PointerAnalyzer$Unification", name := "unify", desc := "(LPointerAnalyzer$Statement;)V" } : Jvm.MethodName) prog_19_method_3_code (5 : Nat) (Option.none : Option Jvm.ClassFile.FieldType)) ∈ lw_all := lw_g (lw_at lw_m9 190 rfl) rfl
theorem q2233 : (Jvm.Cond.methodLink "PointerAnalyzer$Unification" (75 : Nat) ({ cls := "PointerAnalyzer$Kind", name := "ordinal", desc := "()I" } : Jvm.MethodName)) ∈ lw_all := lw_g (lw_at lw_m9 191 rfl) rfl
theorem q2234 : (Jvm.Cond.methodLink "PointerAnalyzer$Unification" (80 : Nat) ({ cls := "PointerAnalyzer$Term", name := "target", desc := "()LPointerAnalyzer$Term;" } : Jvm.MethodName)) ∈ lw_all := lw_g (lw_at lw_m9 192 rfl) rfl
theorem q2244 : (Jvm.Cond.methodLink "PointerAnalyzer$Unification" (55 : Nat) ({ cls := "PointerAnalyzer$Unification", name := "join", desc := "(LPointerAnalyzer$Term;LPointerAnalyzer$Term;)V" } : Jvm.MethodName)) ∈ lw_all := lw_g (lw_at lw_m9 202 rfl) rfl
theorem q2245 : (Jvm.Cond.privateMethod ({ cls := "PointerAnalyzer$Unification", name := "join", desc := "(LPointerAnalyzer$Term;LPointerAnalyzer$Term;)V" } : Jvm.MethodName)) ∈ lw_tbl := lw_at lw_m9 203 rfl
theorem q2246 : (Jvm.Cond.instanceMethod ({ cls := "PointerAnalyzer$Unification", name := "join", desc := "(LPointerAnalyzer$Term;LPointerAnalyzer$Term;)V" } : Jvm.MethodName)) ∈ lw_all := lw_g (lw_at lw_m9 204 rfl) rfl
theorem q2247 : (Jvm.Cond.code ({ cls := "PointerAnalyzer$Unification", name := "join", desc := "(LPointerAnalyzer$Term;LPointerAnalyzer$Term;)V" } : Jvm.MethodName) prog_19_method_2_code (5 : Nat) (Option.none : Option Jvm.ClassFile.FieldType)) ∈ lw_all := lw_g (lw_at lw_m9 205 rfl) rfl
theorem q2248 : (Jvm.Cond.methodLink "PointerAnalyzer$Unification" (44 : Nat) ({ cls := "PointerAnalyzer$Term", name := "find", desc := "()LPointerAnalyzer$Term;" } : Jvm.MethodName)) ∈ lw_all := lw_g (lw_at lw_m9 206 rfl) rfl
theorem q2249 : (Jvm.Cond.methodLinkNest "PointerAnalyzer$Unification" (88 : Nat) ({ cls := "PointerAnalyzer", name := "local", desc := "(II)I" } : Jvm.MethodName) "PointerAnalyzer") ∈ lw_tbl := lw_at lw_m9 207 rfl
theorem q2250 : (Jvm.Cond.fieldLink "PointerAnalyzer$Unification" (17 : Nat) "PointerAnalyzer$Unification" "terms" "[LPointerAnalyzer$Term;") ∈ lw_all := lw_g (lw_at lw_m9 208 rfl) rfl
theorem q2252 : (Jvm.Cond.laysFinal "PointerAnalyzer$Unification" "PointerAnalyzer$Unification" "terms" "[LPointerAnalyzer$Term;") ∈ lw_all := lw_g (lw_at lw_m9 210 rfl) rfl
theorem q2253 : (Jvm.Cond.soleField "PointerAnalyzer$Unification" "terms") ∈ lw_all := lw_g (lw_at lw_m9 211 rfl) rfl
theorem q2254 : (Jvm.Cond.superclass "PointerAnalyzer$Unification" "java/lang/Object") ∈ lw_all := lw_g (lw_at lw_m9 212 rfl) rfl
theorem q2256 : (Jvm.Cond.instanceMethod ({ cls := "PointerAnalyzer$Unification", name := "countClasses", desc := "()I" } : Jvm.MethodName)) ∈ lw_all := lw_g (lw_at lw_m9 214 rfl) rfl
theorem q2257 : (Jvm.Cond.selects "PointerAnalyzer$Unification" ({ cls := "PointerAnalyzer$Unification", name := "countClasses", desc := "()I" } : Jvm.MethodName) ({ cls := "PointerAnalyzer$Unification", name := "countClasses", desc := "()I" } : Jvm.MethodName)) ∈ lw_all := lw_g (lw_at lw_m9 215 rfl) rfl
theorem q2258 : (Jvm.Cond.code ({ cls := "PointerAnalyzer$Unification", name := "countClasses", desc := "()I" } : Jvm.MethodName) prog_19_method_5_code (5 : Nat) (Option.some Jvm.ClassFile.FieldType.int)) ∈ lw_all := lw_g (lw_at lw_m9 216 rfl) rfl
theorem q2595 : (Jvm.Cond.fieldLinkNest "PointerAnalyzer$Unification" (71 : Nat) "PointerAnalyzer$Line" "kind" "LPointerAnalyzer$Kind;" "PointerAnalyzer") ∈ lw_tbl := lw_at lw_m11 73 rfl
theorem q2600 : (Jvm.Cond.fieldLinkNest "PointerAnalyzer$Unification" (63 : Nat) "PointerAnalyzer$Line" "left" "I" "PointerAnalyzer") ∈ lw_tbl := lw_at lw_m11 78 rfl
theorem q2607 : (Jvm.Cond.fieldLinkNest "PointerAnalyzer$Unification" (68 : Nat) "PointerAnalyzer$Line" "right" "I" "PointerAnalyzer") ∈ lw_tbl := lw_at lw_m11 85 rfl
theorem q2613 : (Jvm.Cond.fieldLinkNest "PointerAnalyzer$Unification" (85 : Nat) "PointerAnalyzer$Line" "extra" "I" "PointerAnalyzer") ∈ lw_tbl := lw_at lw_m11 91 rfl
theorem q2787 : (Jvm.Cond.instanceMethod ({ cls := "PointerAnalyzer$Unification", name := "targets", desc := "(I)J" } : Jvm.MethodName)) ∈ lw_all := lw_g (lw_at lw_m12 25 rfl) rfl
theorem q2788 : (Jvm.Cond.selects "PointerAnalyzer$Unification" ({ cls := "PointerAnalyzer$Unification", name := "targets", desc := "(I)J" } : Jvm.MethodName) ({ cls := "PointerAnalyzer$Unification", name := "targets", desc := "(I)J" } : Jvm.MethodName)) ∈ lw_all := lw_g (lw_at lw_m12 26 rfl) rfl
theorem q2789 : (Jvm.Cond.code ({ cls := "PointerAnalyzer$Unification", name := "targets", desc := "(I)J" } : Jvm.MethodName) prog_19_method_4_code (7 : Nat) (Option.some Jvm.ClassFile.FieldType.long)) ∈ lw_all := lw_g (lw_at lw_m12 27 rfl) rfl
theorem q2790 : (Jvm.Cond.constantLong "PointerAnalyzer$Unification" (92 : Nat) (7 : Int64)) ∈ lw_all := lw_g (lw_at lw_m12 28 rfl) rfl
theorem q2791 : (Jvm.Cond.methodLinkNest "PointerAnalyzer$Unification" (94 : Nat) ({ cls := "PointerAnalyzer", name := "fieldCode", desc := "(II)I" } : Jvm.MethodName) "PointerAnalyzer") ∈ lw_tbl := lw_at lw_m12 29 rfl
theorem q3498 : (Jvm.Cond.castable "PointerAnalyzer$Unification" "java/lang/Object") ∈ lw_tbl := lw_at lw_m15 16 rfl
theorem in_X15 : ∀ w ∈ wsX150, w ∈ lw_all := lw_in wsX150 [2252] (by decide +kernel) (by decide +kernel)

/-! PointerAnalyzer$Term -/
set_option maxRecDepth 100000
def RX16 : String := "PointerAnalyzer$Term"
def TX16 : u_T := fun k => match k with
  | 0 => ("PointerAnalyzer$Term", "parent", "LPointerAnalyzer$Term;", false)
  | _ => ("PointerAnalyzer$Term", "target", "LPointerAnalyzer$Term;", false)
def tyX16 : Nat → FieldType := fun k => match k with
  | 0 => .object "PointerAnalyzer$Term"
  | _ => .object "PointerAnalyzer$Term"
abbrev wsX160 : List Cond := u_ws RX16 TX16 2
theorem nmX16 : ∀ a, a < 2 → ∀ b, b < 2 → a ≠ b → (TX16 a).2.1 ≠ (TX16 b).2.1 := by decide +kernel
theorem tyX16_ok : ∀ k, k < 2 → parseFieldDescriptor (TX16 k).2.2.1 = some (tyX16 k) := by decide +kernel
abbrev cX16_init : ByteArray := prog_18_method_1_code
def yX16_init : MethodName := ⟨RX16, "<init>", "()V"⟩
def dkwX16_init_0 : List UInt8 := [42, 183, 0, 1, 42, 42, 181, 0, 7, 177]
abbrev dktX16_init_0 : List UInt8 := dkwX16_init_0 ++ []
theorem dksX16_init_0 : cX16_init.data.toList.drop 0 = dktX16_init_0 := by decide +kernel
theorem dX16_init_0 : decode cX16_init 0 = .ok (.aload_n 0, 1) := dk_42 (dk_at dksX16_init_0 0 rfl rfl)
theorem dX16_init_1 : decode cX16_init 1 = .ok (.invokespecial 1, 3) := dk_183 0 1 (dk_at dksX16_init_0 1 rfl rfl)
theorem dX16_init_4 : decode cX16_init 4 = .ok (.aload_n 0, 1) := dk_42 (dk_at dksX16_init_0 4 rfl rfl)
theorem dX16_init_5 : decode cX16_init 5 = .ok (.aload_n 0, 1) := dk_42 (dk_at dksX16_init_0 5 rfl rfl)
theorem dX16_init_6 : decode cX16_init 6 = .ok (.putfield 7, 3) := dk_181 0 7 (dk_at dksX16_init_0 6 rfl rfl)
theorem dX16_init_9 : decode cX16_init 9 = .ok (.return_, 1) := dk_177 (dk_at dksX16_init_0 9 rfl rfl)
abbrev cX16_target : ByteArray := prog_18_method_3_code
def yX16_target : MethodName := ⟨RX16, "target", "()LPointerAnalyzer$Term;"⟩
def dkwX16_target_1 : List UInt8 := [180, 0, 17, 182, 0, 13, 176]
abbrev dktX16_target_1 : List UInt8 := dkwX16_target_1 ++ []
def dkwX16_target_0 : List UInt8 := [42, 182, 0, 13, 76, 43, 180, 0, 17, 199, 0, 14, 43, 187, 0, 8, 89, 183, 0, 20, 181, 0, 17, 43]
abbrev dktX16_target_0 : List UInt8 := dkwX16_target_0 ++ dktX16_target_1
theorem dksX16_target_0 : cX16_target.data.toList.drop 0 = dktX16_target_0 := by decide +kernel
theorem dksX16_target_1 : cX16_target.data.toList.drop 24 = dktX16_target_1 := dk_seg dksX16_target_0 24 rfl rfl
theorem dX16_target_0 : decode cX16_target 0 = .ok (.aload_n 0, 1) := dk_42 (dk_at dksX16_target_0 0 rfl rfl)
theorem dX16_target_1 : decode cX16_target 1 = .ok (.invokevirtual 13, 3) := dk_182 0 13 (dk_at dksX16_target_0 1 rfl rfl)
theorem dX16_target_4 : decode cX16_target 4 = .ok (.astore_n 1, 1) := dk_76 (dk_at dksX16_target_0 4 rfl rfl)
theorem dX16_target_5 : decode cX16_target 5 = .ok (.aload_n 1, 1) := dk_43 (dk_at dksX16_target_0 5 rfl rfl)
theorem dX16_target_6 : decode cX16_target 6 = .ok (.getfield 17, 3) := dk_180 0 17 (dk_at dksX16_target_0 6 rfl rfl)
theorem dX16_target_9 : decode cX16_target 9 = .ok (.ifnonnull 14, 3) := dk_199 0 14 (dk_at dksX16_target_0 9 rfl rfl)
theorem dX16_target_12 : decode cX16_target 12 = .ok (.aload_n 1, 1) := dk_43 (dk_at dksX16_target_0 12 rfl rfl)
theorem dX16_target_13 : decode cX16_target 13 = .ok (.new 8, 3) := dk_187 0 8 (dk_at dksX16_target_0 13 rfl rfl)
theorem dX16_target_16 : decode cX16_target 16 = .ok (.dup, 1) := dk_89 (dk_at dksX16_target_0 16 rfl rfl)
theorem dX16_target_17 : decode cX16_target 17 = .ok (.invokespecial 20, 3) := dk_183 0 20 (dk_at dksX16_target_0 17 rfl rfl)
theorem dX16_target_20 : decode cX16_target 20 = .ok (.putfield 17, 3) := dk_181 0 17 (dk_at dksX16_target_0 20 rfl rfl)
theorem dX16_target_23 : decode cX16_target 23 = .ok (.aload_n 1, 1) := dk_43 (dk_at dksX16_target_0 23 rfl rfl)
theorem dX16_target_24 : decode cX16_target 24 = .ok (.getfield 17, 3) := dk_180 0 17 (dk_at dksX16_target_1 0 rfl rfl)
theorem dX16_target_27 : decode cX16_target 27 = .ok (.invokevirtual 13, 3) := dk_182 0 13 (dk_at dksX16_target_1 3 rfl rfl)
theorem dX16_target_30 : decode cX16_target 30 = .ok (.areturn, 1) := dk_176 (dk_at dksX16_target_1 6 rfl rfl)
abbrev cX16_find : ByteArray := prog_18_method_2_code
def yX16_find : MethodName := ⟨RX16, "find", "()LPointerAnalyzer$Term;"⟩
def dkwX16_find_0 : List UInt8 := [42, 76, 43, 180, 0, 7, 43, 165, 0, 11, 43, 180, 0, 7, 76, 167, 255, 243, 43, 176]
abbrev dktX16_find_0 : List UInt8 := dkwX16_find_0 ++ []
theorem dksX16_find_0 : cX16_find.data.toList.drop 0 = dktX16_find_0 := by decide +kernel
theorem dX16_find_0 : decode cX16_find 0 = .ok (.aload_n 0, 1) := dk_42 (dk_at dksX16_find_0 0 rfl rfl)
theorem dX16_find_1 : decode cX16_find 1 = .ok (.astore_n 1, 1) := dk_76 (dk_at dksX16_find_0 1 rfl rfl)
theorem dX16_find_2 : decode cX16_find 2 = .ok (.aload_n 1, 1) := dk_43 (dk_at dksX16_find_0 2 rfl rfl)
theorem dX16_find_3 : decode cX16_find 3 = .ok (.getfield 7, 3) := dk_180 0 7 (dk_at dksX16_find_0 3 rfl rfl)
theorem dX16_find_6 : decode cX16_find 6 = .ok (.aload_n 1, 1) := dk_43 (dk_at dksX16_find_0 6 rfl rfl)
theorem dX16_find_7 : decode cX16_find 7 = .ok (.if_acmp .eq 11, 3) := dk_165 0 11 (dk_at dksX16_find_0 7 rfl rfl)
theorem dX16_find_10 : decode cX16_find 10 = .ok (.aload_n 1, 1) := dk_43 (dk_at dksX16_find_0 10 rfl rfl)
theorem dX16_find_11 : decode cX16_find 11 = .ok (.getfield 7, 3) := dk_180 0 7 (dk_at dksX16_find_0 11 rfl rfl)
theorem dX16_find_14 : decode cX16_find 14 = .ok (.astore_n 1, 1) := dk_76 (dk_at dksX16_find_0 14 rfl rfl)
theorem dX16_find_15 : decode cX16_find 15 = .ok (.goto (-13), 3) := dk_167 255 243 (dk_at dksX16_find_0 15 rfl rfl)
theorem dX16_find_18 : decode cX16_find 18 = .ok (.aload_n 1, 1) := dk_43 (dk_at dksX16_find_0 18 rfl rfl)
theorem dX16_find_19 : decode cX16_find 19 = .ok (.areturn, 1) := dk_176 (dk_at dksX16_find_0 19 rfl rfl)
theorem q185 : (Jvm.Cond.initialized "PointerAnalyzer$Term") ∈ lw_all := lw_g (lw_at lw_m1 63 rfl) rfl
theorem q355 : (Jvm.Cond.selects "PointerAnalyzer$Term" ({ cls := "java/lang/Object", name := "getClass", desc := "()Ljava/lang/Class;" } : Jvm.MethodName) ({ cls := "java/lang/Object", name := "getClass", desc := "()Ljava/lang/Class;" } : Jvm.MethodName)) ∈ lw_all := lw_g (lw_at lw_m1 233 rfl) rfl
theorem q778 : (Jvm.Cond.selects "PointerAnalyzer$Term" ({ cls := "java/lang/Object", name := "equals", desc := "(Ljava/lang/Object;)Z" } : Jvm.MethodName) ({ cls := "java/lang/Object", name := "equals", desc := "(Ljava/lang/Object;)Z" } : Jvm.MethodName)) ∈ lw_all := lw_g (lw_at lw_m3 176 rfl) rfl
theorem q2212 : (Jvm.Cond.instantiable "PointerAnalyzer$Term" (2 : Nat)) ∈ lw_all := lw_g (lw_at lw_m9 170 rfl) rfl
theorem q2214 : (Jvm.Cond.instanceMethod ({ cls := "PointerAnalyzer$Term", name := "<init>", desc := "()V" } : Jvm.MethodName)) ∈ lw_all := lw_g (lw_at lw_m9 172 rfl) rfl
theorem q2215 : (Jvm.Cond.code ({ cls := "PointerAnalyzer$Term", name := "<init>", desc := "()V" } : Jvm.MethodName) prog_18_method_1_code (1 : Nat) (Option.none : Option Jvm.ClassFile.FieldType)) ∈ lw_all := lw_g (lw_at lw_m9 173 rfl) rfl
theorem q2216 : (Jvm.Cond.methodLink "PointerAnalyzer$Term" (1 : Nat) ({ cls := "java/lang/Object", name := "<init>", desc := "()V" } : Jvm.MethodName)) ∈ lw_all := lw_g (lw_at lw_m9 174 rfl) rfl
theorem q2217 : (Jvm.Cond.fieldLink "PointerAnalyzer$Term" (7 : Nat) "PointerAnalyzer$Term" "parent" "LPointerAnalyzer$Term;") ∈ lw_all := lw_g (lw_at lw_m9 175 rfl) rfl
theorem q2220 : (Jvm.Cond.fieldLink "PointerAnalyzer$Term" (17 : Nat) "PointerAnalyzer$Term" "target" "LPointerAnalyzer$Term;") ∈ lw_all := lw_g (lw_at lw_m9 178 rfl) rfl
theorem q2221 : (Jvm.Cond.lays "PointerAnalyzer$Term" "PointerAnalyzer$Term" "parent" "LPointerAnalyzer$Term;") ∈ lw_all := lw_g (lw_at lw_m9 179 rfl) rfl
theorem q2222 : (Jvm.Cond.soleField "PointerAnalyzer$Term" "parent") ∈ lw_all := lw_g (lw_at lw_m9 180 rfl) rfl
theorem q2223 : (Jvm.Cond.lays "PointerAnalyzer$Term" "PointerAnalyzer$Term" "target" "LPointerAnalyzer$Term;") ∈ lw_all := lw_g (lw_at lw_m9 181 rfl) rfl
theorem q2224 : (Jvm.Cond.soleField "PointerAnalyzer$Term" "target") ∈ lw_all := lw_g (lw_at lw_m9 182 rfl) rfl
theorem q2225 : (Jvm.Cond.superclass "PointerAnalyzer$Term" "java/lang/Object") ∈ lw_all := lw_g (lw_at lw_m9 183 rfl) rfl
theorem q2235 : (Jvm.Cond.instanceMethod ({ cls := "PointerAnalyzer$Term", name := "target", desc := "()LPointerAnalyzer$Term;" } : Jvm.MethodName)) ∈ lw_all := lw_g (lw_at lw_m9 193 rfl) rfl
theorem q2236 : (Jvm.Cond.selects "PointerAnalyzer$Term" ({ cls := "PointerAnalyzer$Term", name := "target", desc := "()LPointerAnalyzer$Term;" } : Jvm.MethodName) ({ cls := "PointerAnalyzer$Term", name := "target", desc := "()LPointerAnalyzer$Term;" } : Jvm.MethodName)) ∈ lw_all := lw_g (lw_at lw_m9 194 rfl) rfl
theorem q2237 : (Jvm.Cond.code ({ cls := "PointerAnalyzer$Term", name := "target", desc := "()LPointerAnalyzer$Term;" } : Jvm.MethodName) prog_18_method_3_code (2 : Nat) (Option.some (Jvm.ClassFile.FieldType.object "PointerAnalyzer$Term"))) ∈ lw_all := lw_g (lw_at lw_m9 195 rfl) rfl
theorem q2238 : (Jvm.Cond.methodLink "PointerAnalyzer$Term" (13 : Nat) ({ cls := "PointerAnalyzer$Term", name := "find", desc := "()LPointerAnalyzer$Term;" } : Jvm.MethodName)) ∈ lw_all := lw_g (lw_at lw_m9 196 rfl) rfl
theorem q2239 : (Jvm.Cond.instanceMethod ({ cls := "PointerAnalyzer$Term", name := "find", desc := "()LPointerAnalyzer$Term;" } : Jvm.MethodName)) ∈ lw_all := lw_g (lw_at lw_m9 197 rfl) rfl
theorem q2240 : (Jvm.Cond.selects "PointerAnalyzer$Term" ({ cls := "PointerAnalyzer$Term", name := "find", desc := "()LPointerAnalyzer$Term;" } : Jvm.MethodName) ({ cls := "PointerAnalyzer$Term", name := "find", desc := "()LPointerAnalyzer$Term;" } : Jvm.MethodName)) ∈ lw_all := lw_g (lw_at lw_m9 198 rfl) rfl
theorem q2241 : (Jvm.Cond.code ({ cls := "PointerAnalyzer$Term", name := "find", desc := "()LPointerAnalyzer$Term;" } : Jvm.MethodName) prog_18_method_2_code (2 : Nat) (Option.some (Jvm.ClassFile.FieldType.object "PointerAnalyzer$Term"))) ∈ lw_all := lw_g (lw_at lw_m9 199 rfl) rfl
theorem q2242 : (Jvm.Cond.classLink "PointerAnalyzer$Term" (8 : Nat) "PointerAnalyzer$Term") ∈ lw_all := lw_g (lw_at lw_m9 200 rfl) rfl
theorem q2243 : (Jvm.Cond.methodLink "PointerAnalyzer$Term" (20 : Nat) ({ cls := "PointerAnalyzer$Term", name := "<init>", desc := "()V" } : Jvm.MethodName)) ∈ lw_all := lw_g (lw_at lw_m9 201 rfl) rfl
theorem q3461 : (Jvm.Cond.castable "PointerAnalyzer$Term" "java/lang/Object") ∈ lw_tbl := lw_at lw_m14 219 rfl
theorem in_X16 : ∀ w ∈ wsX160, w ∈ lw_all := lw_in wsX160 [2221, 2223] (by decide +kernel) (by decide +kernel)

/-! PointerAnalyzer$Run -/
set_option maxRecDepth 100000
def RX17 : String := "PointerAnalyzer$Run"
def TX17 : u_T := fun k => match k with
  | 0 => ("PointerAnalyzer$Run", "program", "LPointerAnalyzer$Program;", true)
  | 1 => ("PointerAnalyzer$Run", "globals", "[LPointerAnalyzer$Place;", true)
  | 2 => ("PointerAnalyzer$Run", "observed", "[J", true)
  | 3 => ("PointerAnalyzer$Run", "executed", "I", false)
  | 4 => ("PointerAnalyzer$Run", "faults", "I", false)
  | 5 => ("PointerAnalyzer$Run", "objects", "I", false)
  | _ => ("PointerAnalyzer$Run", "open", "I", false)
def tyX17 : Nat → FieldType := fun k => match k with
  | 0 => .object "PointerAnalyzer$Program"
  | 1 => .array (.object "PointerAnalyzer$Place")
  | 2 => .array .long
  | 3 => .int
  | 4 => .int
  | 5 => .int
  | _ => .int
abbrev wsX170 : List Cond := u_ws RX17 TX17 7
theorem nmX17 : ∀ a, a < 7 → ∀ b, b < 7 → a ≠ b → (TX17 a).2.1 ≠ (TX17 b).2.1 := by decide +kernel
theorem tyX17_ok : ∀ k, k < 7 → parseFieldDescriptor (TX17 k).2.2.1 = some (tyX17 k) := by decide +kernel
abbrev cX17_init : ByteArray := prog_15_method_1_code
def yX17_init : MethodName := ⟨RX17, "<init>", "(LPointerAnalyzer$Program;)V"⟩
def dkwX17_init_2 : List UInt8 := [83, 132, 2, 1, 167, 255, 233, 42, 3, 1, 182, 0, 28, 87, 167, 0, 9, 77, 42, 3, 181, 0, 34, 177]
abbrev dktX17_init_2 : List UInt8 := dkwX17_init_2 ++ []
def dkwX17_init_1 : List UInt8 := [181, 0, 21, 3, 61, 28, 7, 162, 0, 24, 42, 180, 0, 11, 28, 187, 0, 9, 89, 28, 1, 183, 0, 25]
abbrev dktX17_init_1 : List UInt8 := dkwX17_init_1 ++ dktX17_init_2
def dkwX17_init_0 : List UInt8 := [42, 183, 0, 3, 42, 7, 189, 0, 9, 181, 0, 11, 42, 16, 44, 188, 11, 181, 0, 17, 42, 43]
abbrev dktX17_init_0 : List UInt8 := dkwX17_init_0 ++ dktX17_init_1
theorem dksX17_init_0 : cX17_init.data.toList.drop 0 = dktX17_init_0 := by decide +kernel
theorem dksX17_init_1 : cX17_init.data.toList.drop 22 = dktX17_init_1 := dk_seg dksX17_init_0 22 rfl rfl
theorem dksX17_init_2 : cX17_init.data.toList.drop 46 = dktX17_init_2 := dk_seg dksX17_init_1 24 rfl rfl
theorem dX17_init_0 : decode cX17_init 0 = .ok (.aload_n 0, 1) := dk_42 (dk_at dksX17_init_0 0 rfl rfl)
theorem dX17_init_1 : decode cX17_init 1 = .ok (.invokespecial 3, 3) := dk_183 0 3 (dk_at dksX17_init_0 1 rfl rfl)
theorem dX17_init_4 : decode cX17_init 4 = .ok (.aload_n 0, 1) := dk_42 (dk_at dksX17_init_0 4 rfl rfl)
theorem dX17_init_5 : decode cX17_init 5 = .ok (.iconst 4, 1) := dk_7 (dk_at dksX17_init_0 5 rfl rfl)
theorem dX17_init_6 : decode cX17_init 6 = .ok (.anewarray 9, 3) := dk_189 0 9 (dk_at dksX17_init_0 6 rfl rfl)
theorem dX17_init_9 : decode cX17_init 9 = .ok (.putfield 11, 3) := dk_181 0 11 (dk_at dksX17_init_0 9 rfl rfl)
theorem dX17_init_12 : decode cX17_init 12 = .ok (.aload_n 0, 1) := dk_42 (dk_at dksX17_init_0 12 rfl rfl)
theorem dX17_init_13 : decode cX17_init 13 = .ok (.bipush 44, 2) := dk_16 44 (dk_at dksX17_init_0 13 rfl rfl)
theorem dX17_init_15 : decode cX17_init 15 = .ok (.newarray .long, 2) := dk_188_11 (dk_at dksX17_init_0 15 rfl rfl)
theorem dX17_init_17 : decode cX17_init 17 = .ok (.putfield 17, 3) := dk_181 0 17 (dk_at dksX17_init_0 17 rfl rfl)
theorem dX17_init_20 : decode cX17_init 20 = .ok (.aload_n 0, 1) := dk_42 (dk_at dksX17_init_0 20 rfl rfl)
theorem dX17_init_21 : decode cX17_init 21 = .ok (.aload_n 1, 1) := dk_43 (dk_at dksX17_init_0 21 rfl rfl)
theorem dX17_init_22 : decode cX17_init 22 = .ok (.putfield 21, 3) := dk_181 0 21 (dk_at dksX17_init_1 0 rfl rfl)
theorem dX17_init_25 : decode cX17_init 25 = .ok (.iconst 0, 1) := dk_3 (dk_at dksX17_init_1 3 rfl rfl)
theorem dX17_init_26 : decode cX17_init 26 = .ok (.istore_n 2, 1) := dk_61 (dk_at dksX17_init_1 4 rfl rfl)
theorem dX17_init_27 : decode cX17_init 27 = .ok (.iload_n 2, 1) := dk_28 (dk_at dksX17_init_1 5 rfl rfl)
theorem dX17_init_28 : decode cX17_init 28 = .ok (.iconst 4, 1) := dk_7 (dk_at dksX17_init_1 6 rfl rfl)
theorem dX17_init_29 : decode cX17_init 29 = .ok (.if_icmp .ge 24, 3) := dk_162 0 24 (dk_at dksX17_init_1 7 rfl rfl)
theorem dX17_init_32 : decode cX17_init 32 = .ok (.aload_n 0, 1) := dk_42 (dk_at dksX17_init_1 10 rfl rfl)
theorem dX17_init_33 : decode cX17_init 33 = .ok (.getfield 11, 3) := dk_180 0 11 (dk_at dksX17_init_1 11 rfl rfl)
theorem dX17_init_36 : decode cX17_init 36 = .ok (.iload_n 2, 1) := dk_28 (dk_at dksX17_init_1 14 rfl rfl)
theorem dX17_init_37 : decode cX17_init 37 = .ok (.new 9, 3) := dk_187 0 9 (dk_at dksX17_init_1 15 rfl rfl)
theorem dX17_init_40 : decode cX17_init 40 = .ok (.dup, 1) := dk_89 (dk_at dksX17_init_1 18 rfl rfl)
theorem dX17_init_41 : decode cX17_init 41 = .ok (.iload_n 2, 1) := dk_28 (dk_at dksX17_init_1 19 rfl rfl)
theorem dX17_init_42 : decode cX17_init 42 = .ok (.aconst_null, 1) := dk_1 (dk_at dksX17_init_1 20 rfl rfl)
theorem dX17_init_43 : decode cX17_init 43 = .ok (.invokespecial 25, 3) := dk_183 0 25 (dk_at dksX17_init_1 21 rfl rfl)
theorem dX17_init_46 : decode cX17_init 46 = .ok (.aastore, 1) := dk_83 (dk_at dksX17_init_2 0 rfl rfl)
theorem dX17_init_47 : decode cX17_init 47 = .ok (.iinc 2 1, 3) := dk_132 2 1 (dk_at dksX17_init_2 1 rfl rfl)
theorem dX17_init_50 : decode cX17_init 50 = .ok (.goto (-23), 3) := dk_167 255 233 (dk_at dksX17_init_2 4 rfl rfl)
theorem dX17_init_53 : decode cX17_init 53 = .ok (.aload_n 0, 1) := dk_42 (dk_at dksX17_init_2 7 rfl rfl)
theorem dX17_init_54 : decode cX17_init 54 = .ok (.iconst 0, 1) := dk_3 (dk_at dksX17_init_2 8 rfl rfl)
theorem dX17_init_55 : decode cX17_init 55 = .ok (.aconst_null, 1) := dk_1 (dk_at dksX17_init_2 9 rfl rfl)
theorem dX17_init_56 : decode cX17_init 56 = .ok (.invokevirtual 28, 3) := dk_182 0 28 (dk_at dksX17_init_2 10 rfl rfl)
theorem dX17_init_59 : decode cX17_init 59 = .ok (.pop, 1) := dk_87 (dk_at dksX17_init_2 13 rfl rfl)
theorem dX17_init_60 : decode cX17_init 60 = .ok (.goto 9, 3) := dk_167 0 9 (dk_at dksX17_init_2 14 rfl rfl)
theorem dX17_init_63 : decode cX17_init 63 = .ok (.astore_n 2, 1) := dk_77 (dk_at dksX17_init_2 17 rfl rfl)
theorem dX17_init_64 : decode cX17_init 64 = .ok (.aload_n 0, 1) := dk_42 (dk_at dksX17_init_2 18 rfl rfl)
theorem dX17_init_65 : decode cX17_init 65 = .ok (.iconst 0, 1) := dk_3 (dk_at dksX17_init_2 19 rfl rfl)
theorem dX17_init_66 : decode cX17_init 66 = .ok (.putfield 34, 3) := dk_181 0 34 (dk_at dksX17_init_2 20 rfl rfl)
theorem dX17_init_69 : decode cX17_init 69 = .ok (.return_, 1) := dk_177 (dk_at dksX17_init_2 23 rfl rfl)
abbrev cX17_activate : ByteArray := prog_15_method_3_code
def yX17_activate : MethodName := ⟨RX17, "activate", "(ILPointerAnalyzer$Place;)LPointerAnalyzer$Place;"⟩
def dkwX17_activate_5 : List UInt8 := [132, 4, 1, 167, 255, 196, 42, 89, 180, 0, 34, 4, 100, 181, 0, 34, 45, 4, 50, 180, 0, 38, 176]
abbrev dktX17_activate_5 : List UInt8 := dkwX17_activate_5 ++ []
def dkwX17_activate_4 : List UInt8 := [160, 0, 23, 42, 42, 180, 0, 21, 180, 0, 53, 21, 4, 182, 0, 65, 192, 0, 69, 45, 182, 0, 74]
abbrev dktX17_activate_4 : List UInt8 := dkwX17_activate_4 ++ dktX17_activate_5
def dkwX17_activate_3 : List UInt8 := [162, 0, 51, 42, 180, 0, 21, 180, 0, 53, 21, 4, 182, 0, 65, 192, 0, 69, 180, 0, 71, 27]
abbrev dktX17_activate_3 : List UInt8 := dkwX17_activate_3 ++ dktX17_activate_4
def dkwX17_activate_2 : List UInt8 := [180, 0, 34, 4, 96, 181, 0, 34, 3, 54, 4, 21, 4, 42, 180, 0, 21, 180, 0, 53, 182, 0, 59]
abbrev dktX17_activate_2 : List UInt8 := dkwX17_activate_2 ++ dktX17_activate_3
def dkwX17_activate_1 : List UInt8 := [184, 0, 45, 1, 183, 0, 25, 83, 132, 4, 1, 167, 255, 229, 42, 45, 3, 50, 44, 182, 0, 49, 42, 89]
abbrev dktX17_activate_1 : List UInt8 := dkwX17_activate_1 ++ dktX17_activate_2
def dkwX17_activate_0 : List UInt8 := [7, 189, 0, 9, 78, 3, 54, 4, 21, 4, 7, 162, 0, 27, 45, 21, 4, 187, 0, 9, 89, 27, 21, 4]
abbrev dktX17_activate_0 : List UInt8 := dkwX17_activate_0 ++ dktX17_activate_1
theorem dksX17_activate_0 : cX17_activate.data.toList.drop 0 = dktX17_activate_0 := by decide +kernel
theorem dksX17_activate_1 : cX17_activate.data.toList.drop 24 = dktX17_activate_1 := dk_seg dksX17_activate_0 24 rfl rfl
theorem dksX17_activate_2 : cX17_activate.data.toList.drop 48 = dktX17_activate_2 := dk_seg dksX17_activate_1 24 rfl rfl
theorem dksX17_activate_3 : cX17_activate.data.toList.drop 71 = dktX17_activate_3 := dk_seg dksX17_activate_2 23 rfl rfl
theorem dksX17_activate_4 : cX17_activate.data.toList.drop 93 = dktX17_activate_4 := dk_seg dksX17_activate_3 22 rfl rfl
theorem dksX17_activate_5 : cX17_activate.data.toList.drop 116 = dktX17_activate_5 := dk_seg dksX17_activate_4 23 rfl rfl
theorem dX17_activate_0 : decode cX17_activate 0 = .ok (.iconst 4, 1) := dk_7 (dk_at dksX17_activate_0 0 rfl rfl)
theorem dX17_activate_1 : decode cX17_activate 1 = .ok (.anewarray 9, 3) := dk_189 0 9 (dk_at dksX17_activate_0 1 rfl rfl)
theorem dX17_activate_4 : decode cX17_activate 4 = .ok (.astore_n 3, 1) := dk_78 (dk_at dksX17_activate_0 4 rfl rfl)
theorem dX17_activate_5 : decode cX17_activate 5 = .ok (.iconst 0, 1) := dk_3 (dk_at dksX17_activate_0 5 rfl rfl)
theorem dX17_activate_6 : decode cX17_activate 6 = .ok (.istore 4, 2) := dk_54 4 (dk_at dksX17_activate_0 6 rfl rfl)
theorem dX17_activate_8 : decode cX17_activate 8 = .ok (.iload 4, 2) := dk_21 4 (dk_at dksX17_activate_0 8 rfl rfl)
theorem dX17_activate_10 : decode cX17_activate 10 = .ok (.iconst 4, 1) := dk_7 (dk_at dksX17_activate_0 10 rfl rfl)
theorem dX17_activate_11 : decode cX17_activate 11 = .ok (.if_icmp .ge 27, 3) := dk_162 0 27 (dk_at dksX17_activate_0 11 rfl rfl)
theorem dX17_activate_14 : decode cX17_activate 14 = .ok (.aload_n 3, 1) := dk_45 (dk_at dksX17_activate_0 14 rfl rfl)
theorem dX17_activate_15 : decode cX17_activate 15 = .ok (.iload 4, 2) := dk_21 4 (dk_at dksX17_activate_0 15 rfl rfl)
theorem dX17_activate_17 : decode cX17_activate 17 = .ok (.new 9, 3) := dk_187 0 9 (dk_at dksX17_activate_0 17 rfl rfl)
theorem dX17_activate_20 : decode cX17_activate 20 = .ok (.dup, 1) := dk_89 (dk_at dksX17_activate_0 20 rfl rfl)
theorem dX17_activate_21 : decode cX17_activate 21 = .ok (.iload_n 1, 1) := dk_27 (dk_at dksX17_activate_0 21 rfl rfl)
theorem dX17_activate_22 : decode cX17_activate 22 = .ok (.iload 4, 2) := dk_21 4 (dk_at dksX17_activate_0 22 rfl rfl)
theorem dX17_activate_24 : decode cX17_activate 24 = .ok (.invokestatic 45, 3) := dk_184 0 45 (dk_at dksX17_activate_1 0 rfl rfl)
theorem dX17_activate_27 : decode cX17_activate 27 = .ok (.aconst_null, 1) := dk_1 (dk_at dksX17_activate_1 3 rfl rfl)
theorem dX17_activate_28 : decode cX17_activate 28 = .ok (.invokespecial 25, 3) := dk_183 0 25 (dk_at dksX17_activate_1 4 rfl rfl)
theorem dX17_activate_31 : decode cX17_activate 31 = .ok (.aastore, 1) := dk_83 (dk_at dksX17_activate_1 7 rfl rfl)
theorem dX17_activate_32 : decode cX17_activate 32 = .ok (.iinc 4 1, 3) := dk_132 4 1 (dk_at dksX17_activate_1 8 rfl rfl)
theorem dX17_activate_35 : decode cX17_activate 35 = .ok (.goto (-27), 3) := dk_167 255 229 (dk_at dksX17_activate_1 11 rfl rfl)
theorem dX17_activate_38 : decode cX17_activate 38 = .ok (.aload_n 0, 1) := dk_42 (dk_at dksX17_activate_1 14 rfl rfl)
theorem dX17_activate_39 : decode cX17_activate 39 = .ok (.aload_n 3, 1) := dk_45 (dk_at dksX17_activate_1 15 rfl rfl)
theorem dX17_activate_40 : decode cX17_activate 40 = .ok (.iconst 0, 1) := dk_3 (dk_at dksX17_activate_1 16 rfl rfl)
theorem dX17_activate_41 : decode cX17_activate 41 = .ok (.aaload, 1) := dk_50 (dk_at dksX17_activate_1 17 rfl rfl)
theorem dX17_activate_42 : decode cX17_activate 42 = .ok (.aload_n 2, 1) := dk_44 (dk_at dksX17_activate_1 18 rfl rfl)
theorem dX17_activate_43 : decode cX17_activate 43 = .ok (.invokevirtual 49, 3) := dk_182 0 49 (dk_at dksX17_activate_1 19 rfl rfl)
theorem dX17_activate_46 : decode cX17_activate 46 = .ok (.aload_n 0, 1) := dk_42 (dk_at dksX17_activate_1 22 rfl rfl)
theorem dX17_activate_47 : decode cX17_activate 47 = .ok (.dup, 1) := dk_89 (dk_at dksX17_activate_1 23 rfl rfl)
theorem dX17_activate_48 : decode cX17_activate 48 = .ok (.getfield 34, 3) := dk_180 0 34 (dk_at dksX17_activate_2 0 rfl rfl)
theorem dX17_activate_51 : decode cX17_activate 51 = .ok (.iconst 1, 1) := dk_4 (dk_at dksX17_activate_2 3 rfl rfl)
theorem dX17_activate_52 : decode cX17_activate 52 = .ok (.iadd, 1) := dk_96 (dk_at dksX17_activate_2 4 rfl rfl)
theorem dX17_activate_53 : decode cX17_activate 53 = .ok (.putfield 34, 3) := dk_181 0 34 (dk_at dksX17_activate_2 5 rfl rfl)
theorem dX17_activate_56 : decode cX17_activate 56 = .ok (.iconst 0, 1) := dk_3 (dk_at dksX17_activate_2 8 rfl rfl)
theorem dX17_activate_57 : decode cX17_activate 57 = .ok (.istore 4, 2) := dk_54 4 (dk_at dksX17_activate_2 9 rfl rfl)
theorem dX17_activate_59 : decode cX17_activate 59 = .ok (.iload 4, 2) := dk_21 4 (dk_at dksX17_activate_2 11 rfl rfl)
theorem dX17_activate_61 : decode cX17_activate 61 = .ok (.aload_n 0, 1) := dk_42 (dk_at dksX17_activate_2 13 rfl rfl)
theorem dX17_activate_62 : decode cX17_activate 62 = .ok (.getfield 21, 3) := dk_180 0 21 (dk_at dksX17_activate_2 14 rfl rfl)
theorem dX17_activate_65 : decode cX17_activate 65 = .ok (.getfield 53, 3) := dk_180 0 53 (dk_at dksX17_activate_2 17 rfl rfl)
theorem dX17_activate_68 : decode cX17_activate 68 = .ok (.invokevirtual 59, 3) := dk_182 0 59 (dk_at dksX17_activate_2 20 rfl rfl)
theorem dX17_activate_71 : decode cX17_activate 71 = .ok (.if_icmp .ge 51, 3) := dk_162 0 51 (dk_at dksX17_activate_3 0 rfl rfl)
theorem dX17_activate_74 : decode cX17_activate 74 = .ok (.aload_n 0, 1) := dk_42 (dk_at dksX17_activate_3 3 rfl rfl)
theorem dX17_activate_75 : decode cX17_activate 75 = .ok (.getfield 21, 3) := dk_180 0 21 (dk_at dksX17_activate_3 4 rfl rfl)
theorem dX17_activate_78 : decode cX17_activate 78 = .ok (.getfield 53, 3) := dk_180 0 53 (dk_at dksX17_activate_3 7 rfl rfl)
theorem dX17_activate_81 : decode cX17_activate 81 = .ok (.iload 4, 2) := dk_21 4 (dk_at dksX17_activate_3 10 rfl rfl)
theorem dX17_activate_83 : decode cX17_activate 83 = .ok (.invokevirtual 65, 3) := dk_182 0 65 (dk_at dksX17_activate_3 12 rfl rfl)
theorem dX17_activate_86 : decode cX17_activate 86 = .ok (.checkcast 69, 3) := dk_192 0 69 (dk_at dksX17_activate_3 15 rfl rfl)
theorem dX17_activate_89 : decode cX17_activate 89 = .ok (.getfield 71, 3) := dk_180 0 71 (dk_at dksX17_activate_3 18 rfl rfl)
theorem dX17_activate_92 : decode cX17_activate 92 = .ok (.iload_n 1, 1) := dk_27 (dk_at dksX17_activate_3 21 rfl rfl)
theorem dX17_activate_93 : decode cX17_activate 93 = .ok (.if_icmp .ne 23, 3) := dk_160 0 23 (dk_at dksX17_activate_4 0 rfl rfl)
theorem dX17_activate_96 : decode cX17_activate 96 = .ok (.aload_n 0, 1) := dk_42 (dk_at dksX17_activate_4 3 rfl rfl)
theorem dX17_activate_97 : decode cX17_activate 97 = .ok (.aload_n 0, 1) := dk_42 (dk_at dksX17_activate_4 4 rfl rfl)
theorem dX17_activate_98 : decode cX17_activate 98 = .ok (.getfield 21, 3) := dk_180 0 21 (dk_at dksX17_activate_4 5 rfl rfl)
theorem dX17_activate_101 : decode cX17_activate 101 = .ok (.getfield 53, 3) := dk_180 0 53 (dk_at dksX17_activate_4 8 rfl rfl)
theorem dX17_activate_104 : decode cX17_activate 104 = .ok (.iload 4, 2) := dk_21 4 (dk_at dksX17_activate_4 11 rfl rfl)
theorem dX17_activate_106 : decode cX17_activate 106 = .ok (.invokevirtual 65, 3) := dk_182 0 65 (dk_at dksX17_activate_4 13 rfl rfl)
theorem dX17_activate_109 : decode cX17_activate 109 = .ok (.checkcast 69, 3) := dk_192 0 69 (dk_at dksX17_activate_4 16 rfl rfl)
theorem dX17_activate_112 : decode cX17_activate 112 = .ok (.aload_n 3, 1) := dk_45 (dk_at dksX17_activate_4 19 rfl rfl)
theorem dX17_activate_113 : decode cX17_activate 113 = .ok (.invokevirtual 74, 3) := dk_182 0 74 (dk_at dksX17_activate_4 20 rfl rfl)
theorem dX17_activate_116 : decode cX17_activate 116 = .ok (.iinc 4 1, 3) := dk_132 4 1 (dk_at dksX17_activate_5 0 rfl rfl)
theorem dX17_activate_119 : decode cX17_activate 119 = .ok (.goto (-60), 3) := dk_167 255 196 (dk_at dksX17_activate_5 3 rfl rfl)
theorem dX17_activate_122 : decode cX17_activate 122 = .ok (.aload_n 0, 1) := dk_42 (dk_at dksX17_activate_5 6 rfl rfl)
theorem dX17_activate_123 : decode cX17_activate 123 = .ok (.dup, 1) := dk_89 (dk_at dksX17_activate_5 7 rfl rfl)
theorem dX17_activate_124 : decode cX17_activate 124 = .ok (.getfield 34, 3) := dk_180 0 34 (dk_at dksX17_activate_5 8 rfl rfl)
theorem dX17_activate_127 : decode cX17_activate 127 = .ok (.iconst 1, 1) := dk_4 (dk_at dksX17_activate_5 11 rfl rfl)
theorem dX17_activate_128 : decode cX17_activate 128 = .ok (.isub, 1) := dk_100 (dk_at dksX17_activate_5 12 rfl rfl)
theorem dX17_activate_129 : decode cX17_activate 129 = .ok (.putfield 34, 3) := dk_181 0 34 (dk_at dksX17_activate_5 13 rfl rfl)
theorem dX17_activate_132 : decode cX17_activate 132 = .ok (.aload_n 3, 1) := dk_45 (dk_at dksX17_activate_5 16 rfl rfl)
theorem dX17_activate_133 : decode cX17_activate 133 = .ok (.iconst 1, 1) := dk_4 (dk_at dksX17_activate_5 17 rfl rfl)
theorem dX17_activate_134 : decode cX17_activate 134 = .ok (.aaload, 1) := dk_50 (dk_at dksX17_activate_5 18 rfl rfl)
theorem dX17_activate_135 : decode cX17_activate 135 = .ok (.getfield 38, 3) := dk_180 0 38 (dk_at dksX17_activate_5 19 rfl rfl)
theorem dX17_activate_138 : decode cX17_activate 138 = .ok (.areturn, 1) := dk_176 (dk_at dksX17_activate_5 22 rfl rfl)
abbrev cX17_assign : ByteArray := prog_15_method_2_code
def yX17_assign : MethodName := ⟨RX17, "assign", "(LPointerAnalyzer$Place;LPointerAnalyzer$Place;)V"⟩
def dkwX17_assign_1 : List UInt8 := [44, 180, 0, 42, 121, 129, 80, 177]
abbrev dktX17_assign_1 : List UInt8 := dkwX17_assign_1 ++ []
def dkwX17_assign_0 : List UInt8 := [43, 44, 181, 0, 38, 42, 180, 0, 17, 43, 180, 0, 42, 92, 47, 44, 199, 0, 7, 9, 167, 0, 9, 10]
abbrev dktX17_assign_0 : List UInt8 := dkwX17_assign_0 ++ dktX17_assign_1
theorem dksX17_assign_0 : cX17_assign.data.toList.drop 0 = dktX17_assign_0 := by decide +kernel
theorem dksX17_assign_1 : cX17_assign.data.toList.drop 24 = dktX17_assign_1 := dk_seg dksX17_assign_0 24 rfl rfl
theorem dX17_assign_0 : decode cX17_assign 0 = .ok (.aload_n 1, 1) := dk_43 (dk_at dksX17_assign_0 0 rfl rfl)
theorem dX17_assign_1 : decode cX17_assign 1 = .ok (.aload_n 2, 1) := dk_44 (dk_at dksX17_assign_0 1 rfl rfl)
theorem dX17_assign_2 : decode cX17_assign 2 = .ok (.putfield 38, 3) := dk_181 0 38 (dk_at dksX17_assign_0 2 rfl rfl)
theorem dX17_assign_5 : decode cX17_assign 5 = .ok (.aload_n 0, 1) := dk_42 (dk_at dksX17_assign_0 5 rfl rfl)
theorem dX17_assign_6 : decode cX17_assign 6 = .ok (.getfield 17, 3) := dk_180 0 17 (dk_at dksX17_assign_0 6 rfl rfl)
theorem dX17_assign_9 : decode cX17_assign 9 = .ok (.aload_n 1, 1) := dk_43 (dk_at dksX17_assign_0 9 rfl rfl)
theorem dX17_assign_10 : decode cX17_assign 10 = .ok (.getfield 42, 3) := dk_180 0 42 (dk_at dksX17_assign_0 10 rfl rfl)
theorem dX17_assign_13 : decode cX17_assign 13 = .ok (.dup2, 1) := dk_92 (dk_at dksX17_assign_0 13 rfl rfl)
theorem dX17_assign_14 : decode cX17_assign 14 = .ok (.laload, 1) := dk_47 (dk_at dksX17_assign_0 14 rfl rfl)
theorem dX17_assign_15 : decode cX17_assign 15 = .ok (.aload_n 2, 1) := dk_44 (dk_at dksX17_assign_0 15 rfl rfl)
theorem dX17_assign_16 : decode cX17_assign 16 = .ok (.ifnonnull 7, 3) := dk_199 0 7 (dk_at dksX17_assign_0 16 rfl rfl)
theorem dX17_assign_19 : decode cX17_assign 19 = .ok (.lconst 0, 1) := dk_9 (dk_at dksX17_assign_0 19 rfl rfl)
theorem dX17_assign_20 : decode cX17_assign 20 = .ok (.goto 9, 3) := dk_167 0 9 (dk_at dksX17_assign_0 20 rfl rfl)
theorem dX17_assign_23 : decode cX17_assign 23 = .ok (.lconst 1, 1) := dk_10 (dk_at dksX17_assign_0 23 rfl rfl)
theorem dX17_assign_24 : decode cX17_assign 24 = .ok (.aload_n 2, 1) := dk_44 (dk_at dksX17_assign_1 0 rfl rfl)
theorem dX17_assign_25 : decode cX17_assign 25 = .ok (.getfield 42, 3) := dk_180 0 42 (dk_at dksX17_assign_1 1 rfl rfl)
theorem dX17_assign_28 : decode cX17_assign 28 = .ok (.lshl, 1) := dk_121 (dk_at dksX17_assign_1 4 rfl rfl)
theorem dX17_assign_29 : decode cX17_assign 29 = .ok (.lor, 1) := dk_129 (dk_at dksX17_assign_1 5 rfl rfl)
theorem dX17_assign_30 : decode cX17_assign 30 = .ok (.lastore, 1) := dk_80 (dk_at dksX17_assign_1 6 rfl rfl)
theorem dX17_assign_31 : decode cX17_assign 31 = .ok (.return_, 1) := dk_177 (dk_at dksX17_assign_1 7 rfl rfl)
abbrev cX17_execute : ByteArray := prog_15_method_5_code
def yX17_execute : MethodName := ⟨RX17, "execute", "(LPointerAnalyzer$Statement;[LPointerAnalyzer$Place;)V"⟩
def dkwX17_execute_9 : List UInt8 := [182, 0, 28, 182, 0, 49, 42, 4, 182, 0, 91, 177]
abbrev dktX17_execute_9 : List UInt8 := dkwX17_execute_9 ++ []
def dkwX17_execute_8 : List UInt8 := [42, 180, 0, 34, 16, 6, 162, 0, 22, 42, 25, 4, 42, 45, 180, 0, 130, 25, 5, 180, 0, 38]
abbrev dktX17_execute_8 : List UInt8 := dkwX17_execute_8 ++ dktX17_execute_9
def dkwX17_execute_7 : List UInt8 := [182, 0, 49, 167, 0, 49, 42, 25, 4, 25, 5, 180, 0, 38, 45, 180, 0, 130, 182, 0, 133, 167, 0, 31]
abbrev dktX17_execute_7 : List UInt8 := dkwX17_execute_7 ++ dktX17_execute_8
def dkwX17_execute_6 : List UInt8 := [25, 5, 180, 0, 38, 182, 0, 120, 167, 0, 66, 42, 25, 4, 42, 43, 180, 0, 123, 182, 0, 126]
abbrev dktX17_execute_6 : List UInt8 := dkwX17_execute_6 ++ dktX17_execute_7
def dkwX17_execute_5 : List UInt8 := [167, 0, 97, 42, 25, 4, 25, 5, 180, 0, 38, 182, 0, 117, 167, 0, 83, 42, 25, 4, 180, 0, 38]
abbrev dktX17_execute_5 : List UInt8 := dkwX17_execute_5 ++ dktX17_execute_6
def dkwX17_execute_4 : List UInt8 := [42, 25, 4, 25, 5, 182, 0, 49, 167, 0, 111, 42, 25, 4, 25, 5, 180, 0, 38, 182, 0, 49]
abbrev dktX17_execute_4 : List UInt8 := dkwX17_execute_4 ++ dktX17_execute_5
def dkwX17_execute_3 : List UInt8 := [170, 0, 0, 0, 0, 129, 0, 0, 0, 0, 0, 0, 0, 5, 0, 0, 0, 38, 0, 0, 0, 49, 0, 0, 0, 63, 0, 0, 0, 77, 0, 0, 0, 94, 0, 0, 0, 111]
abbrev dktX17_execute_3 : List UInt8 := dkwX17_execute_3 ++ dktX17_execute_4
def dkwX17_execute_2 : List UInt8 := [167, 0, 12, 42, 45, 180, 0, 108, 44, 182, 0, 104, 58, 5, 45, 180, 0, 111, 182, 0, 114]
abbrev dktX17_execute_2 : List UInt8 := dkwX17_execute_2 ++ dktX17_execute_3
def dkwX17_execute_1 : List UInt8 := [180, 0, 95, 78, 42, 45, 180, 0, 99, 44, 182, 0, 104, 58, 4, 45, 180, 0, 108, 156, 0, 7, 1]
abbrev dktX17_execute_1 : List UInt8 := dkwX17_execute_1 ++ dktX17_execute_2
def dkwX17_execute_0 : List UInt8 := [42, 89, 180, 0, 78, 4, 96, 181, 0, 78, 42, 43, 178, 0, 81, 182, 0, 87, 182, 0, 91, 43]
abbrev dktX17_execute_0 : List UInt8 := dkwX17_execute_0 ++ dktX17_execute_1
theorem dksX17_execute_0 : cX17_execute.data.toList.drop 0 = dktX17_execute_0 := by decide +kernel
theorem dksX17_execute_1 : cX17_execute.data.toList.drop 22 = dktX17_execute_1 := dk_seg dksX17_execute_0 22 rfl rfl
theorem dksX17_execute_2 : cX17_execute.data.toList.drop 45 = dktX17_execute_2 := dk_seg dksX17_execute_1 23 rfl rfl
theorem dksX17_execute_3 : cX17_execute.data.toList.drop 66 = dktX17_execute_3 := dk_seg dksX17_execute_2 21 rfl rfl
theorem dksX17_execute_4 : cX17_execute.data.toList.drop 104 = dktX17_execute_4 := dk_seg dksX17_execute_3 38 rfl rfl
theorem dksX17_execute_5 : cX17_execute.data.toList.drop 126 = dktX17_execute_5 := dk_seg dksX17_execute_4 22 rfl rfl
theorem dksX17_execute_6 : cX17_execute.data.toList.drop 149 = dktX17_execute_6 := dk_seg dksX17_execute_5 23 rfl rfl
theorem dksX17_execute_7 : cX17_execute.data.toList.drop 171 = dktX17_execute_7 := dk_seg dksX17_execute_6 22 rfl rfl
theorem dksX17_execute_8 : cX17_execute.data.toList.drop 195 = dktX17_execute_8 := dk_seg dksX17_execute_7 24 rfl rfl
theorem dksX17_execute_9 : cX17_execute.data.toList.drop 217 = dktX17_execute_9 := dk_seg dksX17_execute_8 22 rfl rfl
theorem dX17_execute_0 : decode cX17_execute 0 = .ok (.aload_n 0, 1) := dk_42 (dk_at dksX17_execute_0 0 rfl rfl)
theorem dX17_execute_1 : decode cX17_execute 1 = .ok (.dup, 1) := dk_89 (dk_at dksX17_execute_0 1 rfl rfl)
theorem dX17_execute_2 : decode cX17_execute 2 = .ok (.getfield 78, 3) := dk_180 0 78 (dk_at dksX17_execute_0 2 rfl rfl)
theorem dX17_execute_5 : decode cX17_execute 5 = .ok (.iconst 1, 1) := dk_4 (dk_at dksX17_execute_0 5 rfl rfl)
theorem dX17_execute_6 : decode cX17_execute 6 = .ok (.iadd, 1) := dk_96 (dk_at dksX17_execute_0 6 rfl rfl)
theorem dX17_execute_7 : decode cX17_execute 7 = .ok (.putfield 78, 3) := dk_181 0 78 (dk_at dksX17_execute_0 7 rfl rfl)
theorem dX17_execute_10 : decode cX17_execute 10 = .ok (.aload_n 0, 1) := dk_42 (dk_at dksX17_execute_0 10 rfl rfl)
theorem dX17_execute_11 : decode cX17_execute 11 = .ok (.aload_n 1, 1) := dk_43 (dk_at dksX17_execute_0 11 rfl rfl)
theorem dX17_execute_12 : decode cX17_execute 12 = .ok (.getstatic 81, 3) := dk_178 0 81 (dk_at dksX17_execute_0 12 rfl rfl)
theorem dX17_execute_15 : decode cX17_execute 15 = .ok (.invokevirtual 87, 3) := dk_182 0 87 (dk_at dksX17_execute_0 15 rfl rfl)
theorem dX17_execute_18 : decode cX17_execute 18 = .ok (.invokevirtual 91, 3) := dk_182 0 91 (dk_at dksX17_execute_0 18 rfl rfl)
theorem dX17_execute_21 : decode cX17_execute 21 = .ok (.aload_n 1, 1) := dk_43 (dk_at dksX17_execute_0 21 rfl rfl)
theorem dX17_execute_22 : decode cX17_execute 22 = .ok (.getfield 95, 3) := dk_180 0 95 (dk_at dksX17_execute_1 0 rfl rfl)
theorem dX17_execute_25 : decode cX17_execute 25 = .ok (.astore_n 3, 1) := dk_78 (dk_at dksX17_execute_1 3 rfl rfl)
theorem dX17_execute_26 : decode cX17_execute 26 = .ok (.aload_n 0, 1) := dk_42 (dk_at dksX17_execute_1 4 rfl rfl)
theorem dX17_execute_27 : decode cX17_execute 27 = .ok (.aload_n 3, 1) := dk_45 (dk_at dksX17_execute_1 5 rfl rfl)
theorem dX17_execute_28 : decode cX17_execute 28 = .ok (.getfield 99, 3) := dk_180 0 99 (dk_at dksX17_execute_1 6 rfl rfl)
theorem dX17_execute_31 : decode cX17_execute 31 = .ok (.aload_n 2, 1) := dk_44 (dk_at dksX17_execute_1 9 rfl rfl)
theorem dX17_execute_32 : decode cX17_execute 32 = .ok (.invokevirtual 104, 3) := dk_182 0 104 (dk_at dksX17_execute_1 10 rfl rfl)
theorem dX17_execute_35 : decode cX17_execute 35 = .ok (.astore 4, 2) := dk_58 4 (dk_at dksX17_execute_1 13 rfl rfl)
theorem dX17_execute_37 : decode cX17_execute 37 = .ok (.aload_n 3, 1) := dk_45 (dk_at dksX17_execute_1 15 rfl rfl)
theorem dX17_execute_38 : decode cX17_execute 38 = .ok (.getfield 108, 3) := dk_180 0 108 (dk_at dksX17_execute_1 16 rfl rfl)
theorem dX17_execute_41 : decode cX17_execute 41 = .ok (.ifCond .ge 7, 3) := dk_156 0 7 (dk_at dksX17_execute_1 19 rfl rfl)
theorem dX17_execute_44 : decode cX17_execute 44 = .ok (.aconst_null, 1) := dk_1 (dk_at dksX17_execute_1 22 rfl rfl)
theorem dX17_execute_45 : decode cX17_execute 45 = .ok (.goto 12, 3) := dk_167 0 12 (dk_at dksX17_execute_2 0 rfl rfl)
theorem dX17_execute_48 : decode cX17_execute 48 = .ok (.aload_n 0, 1) := dk_42 (dk_at dksX17_execute_2 3 rfl rfl)
theorem dX17_execute_49 : decode cX17_execute 49 = .ok (.aload_n 3, 1) := dk_45 (dk_at dksX17_execute_2 4 rfl rfl)
theorem dX17_execute_50 : decode cX17_execute 50 = .ok (.getfield 108, 3) := dk_180 0 108 (dk_at dksX17_execute_2 5 rfl rfl)
theorem dX17_execute_53 : decode cX17_execute 53 = .ok (.aload_n 2, 1) := dk_44 (dk_at dksX17_execute_2 8 rfl rfl)
theorem dX17_execute_54 : decode cX17_execute 54 = .ok (.invokevirtual 104, 3) := dk_182 0 104 (dk_at dksX17_execute_2 9 rfl rfl)
theorem dX17_execute_57 : decode cX17_execute 57 = .ok (.astore 5, 2) := dk_58 5 (dk_at dksX17_execute_2 12 rfl rfl)
theorem dX17_execute_59 : decode cX17_execute 59 = .ok (.aload_n 3, 1) := dk_45 (dk_at dksX17_execute_2 14 rfl rfl)
theorem dX17_execute_60 : decode cX17_execute 60 = .ok (.getfield 111, 3) := dk_180 0 111 (dk_at dksX17_execute_2 15 rfl rfl)
theorem dX17_execute_63 : decode cX17_execute 63 = .ok (.invokevirtual 114, 3) := dk_182 0 114 (dk_at dksX17_execute_2 18 rfl rfl)
theorem dX17_execute_66 : decode cX17_execute 66 = .ok (.tableswitch 129 0 5 #[38, 49, 63, 77, 94, 111], 38) := by decide +kernel
theorem dX17_execute_104 : decode cX17_execute 104 = .ok (.aload_n 0, 1) := dk_42 (dk_at dksX17_execute_4 0 rfl rfl)
theorem dX17_execute_105 : decode cX17_execute 105 = .ok (.aload 4, 2) := dk_25 4 (dk_at dksX17_execute_4 1 rfl rfl)
theorem dX17_execute_107 : decode cX17_execute 107 = .ok (.aload 5, 2) := dk_25 5 (dk_at dksX17_execute_4 3 rfl rfl)
theorem dX17_execute_109 : decode cX17_execute 109 = .ok (.invokevirtual 49, 3) := dk_182 0 49 (dk_at dksX17_execute_4 5 rfl rfl)
theorem dX17_execute_112 : decode cX17_execute 112 = .ok (.goto 111, 3) := dk_167 0 111 (dk_at dksX17_execute_4 8 rfl rfl)
theorem dX17_execute_115 : decode cX17_execute 115 = .ok (.aload_n 0, 1) := dk_42 (dk_at dksX17_execute_4 11 rfl rfl)
theorem dX17_execute_116 : decode cX17_execute 116 = .ok (.aload 4, 2) := dk_25 4 (dk_at dksX17_execute_4 12 rfl rfl)
theorem dX17_execute_118 : decode cX17_execute 118 = .ok (.aload 5, 2) := dk_25 5 (dk_at dksX17_execute_4 14 rfl rfl)
theorem dX17_execute_120 : decode cX17_execute 120 = .ok (.getfield 38, 3) := dk_180 0 38 (dk_at dksX17_execute_4 16 rfl rfl)
theorem dX17_execute_123 : decode cX17_execute 123 = .ok (.invokevirtual 49, 3) := dk_182 0 49 (dk_at dksX17_execute_4 19 rfl rfl)
theorem dX17_execute_126 : decode cX17_execute 126 = .ok (.goto 97, 3) := dk_167 0 97 (dk_at dksX17_execute_5 0 rfl rfl)
theorem dX17_execute_129 : decode cX17_execute 129 = .ok (.aload_n 0, 1) := dk_42 (dk_at dksX17_execute_5 3 rfl rfl)
theorem dX17_execute_130 : decode cX17_execute 130 = .ok (.aload 4, 2) := dk_25 4 (dk_at dksX17_execute_5 4 rfl rfl)
theorem dX17_execute_132 : decode cX17_execute 132 = .ok (.aload 5, 2) := dk_25 5 (dk_at dksX17_execute_5 6 rfl rfl)
theorem dX17_execute_134 : decode cX17_execute 134 = .ok (.getfield 38, 3) := dk_180 0 38 (dk_at dksX17_execute_5 8 rfl rfl)
theorem dX17_execute_137 : decode cX17_execute 137 = .ok (.invokevirtual 117, 3) := dk_182 0 117 (dk_at dksX17_execute_5 11 rfl rfl)
theorem dX17_execute_140 : decode cX17_execute 140 = .ok (.goto 83, 3) := dk_167 0 83 (dk_at dksX17_execute_5 14 rfl rfl)
theorem dX17_execute_143 : decode cX17_execute 143 = .ok (.aload_n 0, 1) := dk_42 (dk_at dksX17_execute_5 17 rfl rfl)
theorem dX17_execute_144 : decode cX17_execute 144 = .ok (.aload 4, 2) := dk_25 4 (dk_at dksX17_execute_5 18 rfl rfl)
theorem dX17_execute_146 : decode cX17_execute 146 = .ok (.getfield 38, 3) := dk_180 0 38 (dk_at dksX17_execute_5 20 rfl rfl)
theorem dX17_execute_149 : decode cX17_execute 149 = .ok (.aload 5, 2) := dk_25 5 (dk_at dksX17_execute_6 0 rfl rfl)
theorem dX17_execute_151 : decode cX17_execute 151 = .ok (.getfield 38, 3) := dk_180 0 38 (dk_at dksX17_execute_6 2 rfl rfl)
theorem dX17_execute_154 : decode cX17_execute 154 = .ok (.invokevirtual 120, 3) := dk_182 0 120 (dk_at dksX17_execute_6 5 rfl rfl)
theorem dX17_execute_157 : decode cX17_execute 157 = .ok (.goto 66, 3) := dk_167 0 66 (dk_at dksX17_execute_6 8 rfl rfl)
theorem dX17_execute_160 : decode cX17_execute 160 = .ok (.aload_n 0, 1) := dk_42 (dk_at dksX17_execute_6 11 rfl rfl)
theorem dX17_execute_161 : decode cX17_execute 161 = .ok (.aload 4, 2) := dk_25 4 (dk_at dksX17_execute_6 12 rfl rfl)
theorem dX17_execute_163 : decode cX17_execute 163 = .ok (.aload_n 0, 1) := dk_42 (dk_at dksX17_execute_6 14 rfl rfl)
theorem dX17_execute_164 : decode cX17_execute 164 = .ok (.aload_n 1, 1) := dk_43 (dk_at dksX17_execute_6 15 rfl rfl)
theorem dX17_execute_165 : decode cX17_execute 165 = .ok (.getfield 123, 3) := dk_180 0 123 (dk_at dksX17_execute_6 16 rfl rfl)
theorem dX17_execute_168 : decode cX17_execute 168 = .ok (.invokevirtual 126, 3) := dk_182 0 126 (dk_at dksX17_execute_6 19 rfl rfl)
theorem dX17_execute_171 : decode cX17_execute 171 = .ok (.invokevirtual 49, 3) := dk_182 0 49 (dk_at dksX17_execute_7 0 rfl rfl)
theorem dX17_execute_174 : decode cX17_execute 174 = .ok (.goto 49, 3) := dk_167 0 49 (dk_at dksX17_execute_7 3 rfl rfl)
theorem dX17_execute_177 : decode cX17_execute 177 = .ok (.aload_n 0, 1) := dk_42 (dk_at dksX17_execute_7 6 rfl rfl)
theorem dX17_execute_178 : decode cX17_execute 178 = .ok (.aload 4, 2) := dk_25 4 (dk_at dksX17_execute_7 7 rfl rfl)
theorem dX17_execute_180 : decode cX17_execute 180 = .ok (.aload 5, 2) := dk_25 5 (dk_at dksX17_execute_7 9 rfl rfl)
theorem dX17_execute_182 : decode cX17_execute 182 = .ok (.getfield 38, 3) := dk_180 0 38 (dk_at dksX17_execute_7 11 rfl rfl)
theorem dX17_execute_185 : decode cX17_execute 185 = .ok (.aload_n 3, 1) := dk_45 (dk_at dksX17_execute_7 14 rfl rfl)
theorem dX17_execute_186 : decode cX17_execute 186 = .ok (.getfield 130, 3) := dk_180 0 130 (dk_at dksX17_execute_7 15 rfl rfl)
theorem dX17_execute_189 : decode cX17_execute 189 = .ok (.invokevirtual 133, 3) := dk_182 0 133 (dk_at dksX17_execute_7 18 rfl rfl)
theorem dX17_execute_192 : decode cX17_execute 192 = .ok (.goto 31, 3) := dk_167 0 31 (dk_at dksX17_execute_7 21 rfl rfl)
theorem dX17_execute_195 : decode cX17_execute 195 = .ok (.aload_n 0, 1) := dk_42 (dk_at dksX17_execute_8 0 rfl rfl)
theorem dX17_execute_196 : decode cX17_execute 196 = .ok (.getfield 34, 3) := dk_180 0 34 (dk_at dksX17_execute_8 1 rfl rfl)
theorem dX17_execute_199 : decode cX17_execute 199 = .ok (.bipush 6, 2) := dk_16 6 (dk_at dksX17_execute_8 4 rfl rfl)
theorem dX17_execute_201 : decode cX17_execute 201 = .ok (.if_icmp .ge 22, 3) := dk_162 0 22 (dk_at dksX17_execute_8 6 rfl rfl)
theorem dX17_execute_204 : decode cX17_execute 204 = .ok (.aload_n 0, 1) := dk_42 (dk_at dksX17_execute_8 9 rfl rfl)
theorem dX17_execute_205 : decode cX17_execute 205 = .ok (.aload 4, 2) := dk_25 4 (dk_at dksX17_execute_8 10 rfl rfl)
theorem dX17_execute_207 : decode cX17_execute 207 = .ok (.aload_n 0, 1) := dk_42 (dk_at dksX17_execute_8 12 rfl rfl)
theorem dX17_execute_208 : decode cX17_execute 208 = .ok (.aload_n 3, 1) := dk_45 (dk_at dksX17_execute_8 13 rfl rfl)
theorem dX17_execute_209 : decode cX17_execute 209 = .ok (.getfield 130, 3) := dk_180 0 130 (dk_at dksX17_execute_8 14 rfl rfl)
theorem dX17_execute_212 : decode cX17_execute 212 = .ok (.aload 5, 2) := dk_25 5 (dk_at dksX17_execute_8 17 rfl rfl)
theorem dX17_execute_214 : decode cX17_execute 214 = .ok (.getfield 38, 3) := dk_180 0 38 (dk_at dksX17_execute_8 19 rfl rfl)
theorem dX17_execute_217 : decode cX17_execute 217 = .ok (.invokevirtual 28, 3) := dk_182 0 28 (dk_at dksX17_execute_9 0 rfl rfl)
theorem dX17_execute_220 : decode cX17_execute 220 = .ok (.invokevirtual 49, 3) := dk_182 0 49 (dk_at dksX17_execute_9 3 rfl rfl)
theorem dX17_execute_223 : decode cX17_execute 223 = .ok (.aload_n 0, 1) := dk_42 (dk_at dksX17_execute_9 6 rfl rfl)
theorem dX17_execute_224 : decode cX17_execute 224 = .ok (.iconst 1, 1) := dk_4 (dk_at dksX17_execute_9 7 rfl rfl)
theorem dX17_execute_225 : decode cX17_execute 225 = .ok (.invokevirtual 91, 3) := dk_182 0 91 (dk_at dksX17_execute_9 8 rfl rfl)
theorem dX17_execute_228 : decode cX17_execute 228 = .ok (.return_, 1) := dk_177 (dk_at dksX17_execute_9 11 rfl rfl)
abbrev cX17_requireTime : ByteArray := prog_15_method_6_code
def yX17_requireTime : MethodName := ⟨RX17, "requireTime", "(Z)V"⟩
def dkwX17_requireTime_0 : List UInt8 := [27, 153, 0, 21, 42, 180, 0, 78, 17, 0, 200, 160, 0, 11, 187, 0, 32, 89, 183, 0, 137, 191, 177]
abbrev dktX17_requireTime_0 : List UInt8 := dkwX17_requireTime_0 ++ []
theorem dksX17_requireTime_0 : cX17_requireTime.data.toList.drop 0 = dktX17_requireTime_0 := by decide +kernel
theorem dX17_requireTime_0 : decode cX17_requireTime 0 = .ok (.iload_n 1, 1) := dk_27 (dk_at dksX17_requireTime_0 0 rfl rfl)
theorem dX17_requireTime_1 : decode cX17_requireTime 1 = .ok (.ifCond .eq 21, 3) := dk_153 0 21 (dk_at dksX17_requireTime_0 1 rfl rfl)
theorem dX17_requireTime_4 : decode cX17_requireTime 4 = .ok (.aload_n 0, 1) := dk_42 (dk_at dksX17_requireTime_0 4 rfl rfl)
theorem dX17_requireTime_5 : decode cX17_requireTime 5 = .ok (.getfield 78, 3) := dk_180 0 78 (dk_at dksX17_requireTime_0 5 rfl rfl)
theorem dX17_requireTime_8 : decode cX17_requireTime 8 = .ok (.sipush 200, 3) := dk_17 0 200 (dk_at dksX17_requireTime_0 8 rfl rfl)
theorem dX17_requireTime_11 : decode cX17_requireTime 11 = .ok (.if_icmp .ne 11, 3) := dk_160 0 11 (dk_at dksX17_requireTime_0 11 rfl rfl)
theorem dX17_requireTime_14 : decode cX17_requireTime 14 = .ok (.new 32, 3) := dk_187 0 32 (dk_at dksX17_requireTime_0 14 rfl rfl)
theorem dX17_requireTime_17 : decode cX17_requireTime 17 = .ok (.dup, 1) := dk_89 (dk_at dksX17_requireTime_0 17 rfl rfl)
theorem dX17_requireTime_18 : decode cX17_requireTime 18 = .ok (.invokespecial 137, 3) := dk_183 0 137 (dk_at dksX17_requireTime_0 18 rfl rfl)
theorem dX17_requireTime_21 : decode cX17_requireTime 21 = .ok (.athrow, 1) := dk_191 (dk_at dksX17_requireTime_0 21 rfl rfl)
theorem dX17_requireTime_22 : decode cX17_requireTime 22 = .ok (.return_, 1) := dk_177 (dk_at dksX17_requireTime_0 22 rfl rfl)
abbrev cX17_place : ByteArray := prog_15_method_4_code
def yX17_place : MethodName := ⟨RX17, "place", "(I[LPointerAnalyzer$Place;)LPointerAnalyzer$Place;"⟩
def dkwX17_place_0 : List UInt8 := [27, 7, 162, 0, 12, 42, 180, 0, 11, 27, 50, 167, 0, 10, 44, 27, 7, 100, 7, 112, 50, 176]
abbrev dktX17_place_0 : List UInt8 := dkwX17_place_0 ++ []
theorem dksX17_place_0 : cX17_place.data.toList.drop 0 = dktX17_place_0 := by decide +kernel
theorem dX17_place_0 : decode cX17_place 0 = .ok (.iload_n 1, 1) := dk_27 (dk_at dksX17_place_0 0 rfl rfl)
theorem dX17_place_1 : decode cX17_place 1 = .ok (.iconst 4, 1) := dk_7 (dk_at dksX17_place_0 1 rfl rfl)
theorem dX17_place_2 : decode cX17_place 2 = .ok (.if_icmp .ge 12, 3) := dk_162 0 12 (dk_at dksX17_place_0 2 rfl rfl)
theorem dX17_place_5 : decode cX17_place 5 = .ok (.aload_n 0, 1) := dk_42 (dk_at dksX17_place_0 5 rfl rfl)
theorem dX17_place_6 : decode cX17_place 6 = .ok (.getfield 11, 3) := dk_180 0 11 (dk_at dksX17_place_0 6 rfl rfl)
theorem dX17_place_9 : decode cX17_place 9 = .ok (.iload_n 1, 1) := dk_27 (dk_at dksX17_place_0 9 rfl rfl)
theorem dX17_place_10 : decode cX17_place 10 = .ok (.aaload, 1) := dk_50 (dk_at dksX17_place_0 10 rfl rfl)
theorem dX17_place_11 : decode cX17_place 11 = .ok (.goto 10, 3) := dk_167 0 10 (dk_at dksX17_place_0 11 rfl rfl)
theorem dX17_place_14 : decode cX17_place 14 = .ok (.aload_n 2, 1) := dk_44 (dk_at dksX17_place_0 14 rfl rfl)
theorem dX17_place_15 : decode cX17_place 15 = .ok (.iload_n 1, 1) := dk_27 (dk_at dksX17_place_0 15 rfl rfl)
theorem dX17_place_16 : decode cX17_place 16 = .ok (.iconst 4, 1) := dk_7 (dk_at dksX17_place_0 16 rfl rfl)
theorem dX17_place_17 : decode cX17_place 17 = .ok (.isub, 1) := dk_100 (dk_at dksX17_place_0 17 rfl rfl)
theorem dX17_place_18 : decode cX17_place 18 = .ok (.iconst 4, 1) := dk_7 (dk_at dksX17_place_0 18 rfl rfl)
theorem dX17_place_19 : decode cX17_place 19 = .ok (.irem, 1) := dk_112 (dk_at dksX17_place_0 19 rfl rfl)
theorem dX17_place_20 : decode cX17_place 20 = .ok (.aaload, 1) := dk_50 (dk_at dksX17_place_0 20 rfl rfl)
theorem dX17_place_21 : decode cX17_place 21 = .ok (.areturn, 1) := dk_176 (dk_at dksX17_place_0 21 rfl rfl)
abbrev cX17_load : ByteArray := prog_15_method_7_code
def yX17_load : MethodName := ⟨RX17, "load", "(LPointerAnalyzer$Place;LPointerAnalyzer$Place;)V"⟩
def dkwX17_load_1 : List UInt8 := [182, 0, 49, 177]
abbrev dktX17_load_1 : List UInt8 := dkwX17_load_1 ++ []
def dkwX17_load_0 : List UInt8 := [44, 199, 0, 16, 42, 89, 180, 0, 138, 4, 96, 181, 0, 138, 167, 0, 12, 42, 43, 44, 180, 0, 38]
abbrev dktX17_load_0 : List UInt8 := dkwX17_load_0 ++ dktX17_load_1
theorem dksX17_load_0 : cX17_load.data.toList.drop 0 = dktX17_load_0 := by decide +kernel
theorem dksX17_load_1 : cX17_load.data.toList.drop 23 = dktX17_load_1 := dk_seg dksX17_load_0 23 rfl rfl
theorem dX17_load_0 : decode cX17_load 0 = .ok (.aload_n 2, 1) := dk_44 (dk_at dksX17_load_0 0 rfl rfl)
theorem dX17_load_1 : decode cX17_load 1 = .ok (.ifnonnull 16, 3) := dk_199 0 16 (dk_at dksX17_load_0 1 rfl rfl)
theorem dX17_load_4 : decode cX17_load 4 = .ok (.aload_n 0, 1) := dk_42 (dk_at dksX17_load_0 4 rfl rfl)
theorem dX17_load_5 : decode cX17_load 5 = .ok (.dup, 1) := dk_89 (dk_at dksX17_load_0 5 rfl rfl)
theorem dX17_load_6 : decode cX17_load 6 = .ok (.getfield 138, 3) := dk_180 0 138 (dk_at dksX17_load_0 6 rfl rfl)
theorem dX17_load_9 : decode cX17_load 9 = .ok (.iconst 1, 1) := dk_4 (dk_at dksX17_load_0 9 rfl rfl)
theorem dX17_load_10 : decode cX17_load 10 = .ok (.iadd, 1) := dk_96 (dk_at dksX17_load_0 10 rfl rfl)
theorem dX17_load_11 : decode cX17_load 11 = .ok (.putfield 138, 3) := dk_181 0 138 (dk_at dksX17_load_0 11 rfl rfl)
theorem dX17_load_14 : decode cX17_load 14 = .ok (.goto 12, 3) := dk_167 0 12 (dk_at dksX17_load_0 14 rfl rfl)
theorem dX17_load_17 : decode cX17_load 17 = .ok (.aload_n 0, 1) := dk_42 (dk_at dksX17_load_0 17 rfl rfl)
theorem dX17_load_18 : decode cX17_load 18 = .ok (.aload_n 1, 1) := dk_43 (dk_at dksX17_load_0 18 rfl rfl)
theorem dX17_load_19 : decode cX17_load 19 = .ok (.aload_n 2, 1) := dk_44 (dk_at dksX17_load_0 19 rfl rfl)
theorem dX17_load_20 : decode cX17_load 20 = .ok (.getfield 38, 3) := dk_180 0 38 (dk_at dksX17_load_0 20 rfl rfl)
theorem dX17_load_23 : decode cX17_load 23 = .ok (.invokevirtual 49, 3) := dk_182 0 49 (dk_at dksX17_load_1 0 rfl rfl)
theorem dX17_load_26 : decode cX17_load 26 = .ok (.return_, 1) := dk_177 (dk_at dksX17_load_1 3 rfl rfl)
abbrev cX17_store : ByteArray := prog_15_method_8_code
def yX17_store : MethodName := ⟨RX17, "store", "(LPointerAnalyzer$Place;LPointerAnalyzer$Place;)V"⟩
def dkwX17_store_0 : List UInt8 := [43, 199, 0, 16, 42, 89, 180, 0, 138, 4, 96, 181, 0, 138, 167, 0, 9, 42, 43, 44, 182, 0, 49, 177]
abbrev dktX17_store_0 : List UInt8 := dkwX17_store_0 ++ []
theorem dksX17_store_0 : cX17_store.data.toList.drop 0 = dktX17_store_0 := by decide +kernel
theorem dX17_store_0 : decode cX17_store 0 = .ok (.aload_n 1, 1) := dk_43 (dk_at dksX17_store_0 0 rfl rfl)
theorem dX17_store_1 : decode cX17_store 1 = .ok (.ifnonnull 16, 3) := dk_199 0 16 (dk_at dksX17_store_0 1 rfl rfl)
theorem dX17_store_4 : decode cX17_store 4 = .ok (.aload_n 0, 1) := dk_42 (dk_at dksX17_store_0 4 rfl rfl)
theorem dX17_store_5 : decode cX17_store 5 = .ok (.dup, 1) := dk_89 (dk_at dksX17_store_0 5 rfl rfl)
theorem dX17_store_6 : decode cX17_store 6 = .ok (.getfield 138, 3) := dk_180 0 138 (dk_at dksX17_store_0 6 rfl rfl)
theorem dX17_store_9 : decode cX17_store 9 = .ok (.iconst 1, 1) := dk_4 (dk_at dksX17_store_0 9 rfl rfl)
theorem dX17_store_10 : decode cX17_store 10 = .ok (.iadd, 1) := dk_96 (dk_at dksX17_store_0 10 rfl rfl)
theorem dX17_store_11 : decode cX17_store 11 = .ok (.putfield 138, 3) := dk_181 0 138 (dk_at dksX17_store_0 11 rfl rfl)
theorem dX17_store_14 : decode cX17_store 14 = .ok (.goto 9, 3) := dk_167 0 9 (dk_at dksX17_store_0 14 rfl rfl)
theorem dX17_store_17 : decode cX17_store 17 = .ok (.aload_n 0, 1) := dk_42 (dk_at dksX17_store_0 17 rfl rfl)
theorem dX17_store_18 : decode cX17_store 18 = .ok (.aload_n 1, 1) := dk_43 (dk_at dksX17_store_0 18 rfl rfl)
theorem dX17_store_19 : decode cX17_store 19 = .ok (.aload_n 2, 1) := dk_44 (dk_at dksX17_store_0 19 rfl rfl)
theorem dX17_store_20 : decode cX17_store 20 = .ok (.invokevirtual 49, 3) := dk_182 0 49 (dk_at dksX17_store_0 20 rfl rfl)
theorem dX17_store_23 : decode cX17_store 23 = .ok (.return_, 1) := dk_177 (dk_at dksX17_store_0 23 rfl rfl)
abbrev cX17_allocate : ByteArray := prog_15_method_9_code
def yX17_allocate : MethodName := ⟨RX17, "allocate", "(I)LPointerAnalyzer$Place;"⟩
def dkwX17_allocate_1 : List UInt8 := [183, 0, 25, 83, 132, 3, 1, 167, 255, 232, 42, 89, 180, 0, 144, 4, 96, 181, 0, 144, 44, 3, 50, 176]
abbrev dktX17_allocate_1 : List UInt8 := dkwX17_allocate_1 ++ []
def dkwX17_allocate_0 : List UInt8 := [6, 189, 0, 9, 77, 3, 62, 29, 6, 162, 0, 25, 44, 29, 187, 0, 9, 89, 27, 29, 184, 0, 141, 44]
abbrev dktX17_allocate_0 : List UInt8 := dkwX17_allocate_0 ++ dktX17_allocate_1
theorem dksX17_allocate_0 : cX17_allocate.data.toList.drop 0 = dktX17_allocate_0 := by decide +kernel
theorem dksX17_allocate_1 : cX17_allocate.data.toList.drop 24 = dktX17_allocate_1 := dk_seg dksX17_allocate_0 24 rfl rfl
theorem dX17_allocate_0 : decode cX17_allocate 0 = .ok (.iconst 3, 1) := dk_6 (dk_at dksX17_allocate_0 0 rfl rfl)
theorem dX17_allocate_1 : decode cX17_allocate 1 = .ok (.anewarray 9, 3) := dk_189 0 9 (dk_at dksX17_allocate_0 1 rfl rfl)
theorem dX17_allocate_4 : decode cX17_allocate 4 = .ok (.astore_n 2, 1) := dk_77 (dk_at dksX17_allocate_0 4 rfl rfl)
theorem dX17_allocate_5 : decode cX17_allocate 5 = .ok (.iconst 0, 1) := dk_3 (dk_at dksX17_allocate_0 5 rfl rfl)
theorem dX17_allocate_6 : decode cX17_allocate 6 = .ok (.istore_n 3, 1) := dk_62 (dk_at dksX17_allocate_0 6 rfl rfl)
theorem dX17_allocate_7 : decode cX17_allocate 7 = .ok (.iload_n 3, 1) := dk_29 (dk_at dksX17_allocate_0 7 rfl rfl)
theorem dX17_allocate_8 : decode cX17_allocate 8 = .ok (.iconst 3, 1) := dk_6 (dk_at dksX17_allocate_0 8 rfl rfl)
theorem dX17_allocate_9 : decode cX17_allocate 9 = .ok (.if_icmp .ge 25, 3) := dk_162 0 25 (dk_at dksX17_allocate_0 9 rfl rfl)
theorem dX17_allocate_12 : decode cX17_allocate 12 = .ok (.aload_n 2, 1) := dk_44 (dk_at dksX17_allocate_0 12 rfl rfl)
theorem dX17_allocate_13 : decode cX17_allocate 13 = .ok (.iload_n 3, 1) := dk_29 (dk_at dksX17_allocate_0 13 rfl rfl)
theorem dX17_allocate_14 : decode cX17_allocate 14 = .ok (.new 9, 3) := dk_187 0 9 (dk_at dksX17_allocate_0 14 rfl rfl)
theorem dX17_allocate_17 : decode cX17_allocate 17 = .ok (.dup, 1) := dk_89 (dk_at dksX17_allocate_0 17 rfl rfl)
theorem dX17_allocate_18 : decode cX17_allocate 18 = .ok (.iload_n 1, 1) := dk_27 (dk_at dksX17_allocate_0 18 rfl rfl)
theorem dX17_allocate_19 : decode cX17_allocate 19 = .ok (.iload_n 3, 1) := dk_29 (dk_at dksX17_allocate_0 19 rfl rfl)
theorem dX17_allocate_20 : decode cX17_allocate 20 = .ok (.invokestatic 141, 3) := dk_184 0 141 (dk_at dksX17_allocate_0 20 rfl rfl)
theorem dX17_allocate_23 : decode cX17_allocate 23 = .ok (.aload_n 2, 1) := dk_44 (dk_at dksX17_allocate_0 23 rfl rfl)
theorem dX17_allocate_24 : decode cX17_allocate 24 = .ok (.invokespecial 25, 3) := dk_183 0 25 (dk_at dksX17_allocate_1 0 rfl rfl)
theorem dX17_allocate_27 : decode cX17_allocate 27 = .ok (.aastore, 1) := dk_83 (dk_at dksX17_allocate_1 3 rfl rfl)
theorem dX17_allocate_28 : decode cX17_allocate 28 = .ok (.iinc 3 1, 3) := dk_132 3 1 (dk_at dksX17_allocate_1 4 rfl rfl)
theorem dX17_allocate_31 : decode cX17_allocate 31 = .ok (.goto (-24), 3) := dk_167 255 232 (dk_at dksX17_allocate_1 7 rfl rfl)
theorem dX17_allocate_34 : decode cX17_allocate 34 = .ok (.aload_n 0, 1) := dk_42 (dk_at dksX17_allocate_1 10 rfl rfl)
theorem dX17_allocate_35 : decode cX17_allocate 35 = .ok (.dup, 1) := dk_89 (dk_at dksX17_allocate_1 11 rfl rfl)
theorem dX17_allocate_36 : decode cX17_allocate 36 = .ok (.getfield 144, 3) := dk_180 0 144 (dk_at dksX17_allocate_1 12 rfl rfl)
theorem dX17_allocate_39 : decode cX17_allocate 39 = .ok (.iconst 1, 1) := dk_4 (dk_at dksX17_allocate_1 15 rfl rfl)
theorem dX17_allocate_40 : decode cX17_allocate 40 = .ok (.iadd, 1) := dk_96 (dk_at dksX17_allocate_1 16 rfl rfl)
theorem dX17_allocate_41 : decode cX17_allocate 41 = .ok (.putfield 144, 3) := dk_181 0 144 (dk_at dksX17_allocate_1 17 rfl rfl)
theorem dX17_allocate_44 : decode cX17_allocate 44 = .ok (.aload_n 2, 1) := dk_44 (dk_at dksX17_allocate_1 20 rfl rfl)
theorem dX17_allocate_45 : decode cX17_allocate 45 = .ok (.iconst 0, 1) := dk_3 (dk_at dksX17_allocate_1 21 rfl rfl)
theorem dX17_allocate_46 : decode cX17_allocate 46 = .ok (.aaload, 1) := dk_50 (dk_at dksX17_allocate_1 22 rfl rfl)
theorem dX17_allocate_47 : decode cX17_allocate 47 = .ok (.areturn, 1) := dk_176 (dk_at dksX17_allocate_1 23 rfl rfl)
abbrev cX17_move : ByteArray := prog_15_method_10_code
def yX17_move : MethodName := ⟨RX17, "move", "(LPointerAnalyzer$Place;LPointerAnalyzer$Place;I)V"⟩
def dkwX17_move_2 : List UInt8 := [181, 0, 138, 167, 0, 15, 42, 43, 44, 180, 0, 147, 21, 4, 50, 182, 0, 49, 177]
abbrev dktX17_move_2 : List UInt8 := dkwX17_move_2 ++ []
def dkwX17_move_1 : List UInt8 := [29, 96, 54, 4, 44, 180, 0, 147, 198, 0, 9, 21, 4, 6, 161, 0, 16, 42, 89, 180, 0, 138, 4, 96]
abbrev dktX17_move_1 : List UInt8 := dkwX17_move_1 ++ dktX17_move_2
def dkwX17_move_0 : List UInt8 := [44, 198, 0, 7, 29, 154, 0, 10, 42, 43, 44, 182, 0, 49, 177, 44, 180, 0, 42, 16, 20, 100, 6, 112]
abbrev dktX17_move_0 : List UInt8 := dkwX17_move_0 ++ dktX17_move_1
theorem dksX17_move_0 : cX17_move.data.toList.drop 0 = dktX17_move_0 := by decide +kernel
theorem dksX17_move_1 : cX17_move.data.toList.drop 24 = dktX17_move_1 := dk_seg dksX17_move_0 24 rfl rfl
theorem dksX17_move_2 : cX17_move.data.toList.drop 48 = dktX17_move_2 := dk_seg dksX17_move_1 24 rfl rfl
theorem dX17_move_0 : decode cX17_move 0 = .ok (.aload_n 2, 1) := dk_44 (dk_at dksX17_move_0 0 rfl rfl)
theorem dX17_move_1 : decode cX17_move 1 = .ok (.ifnull 7, 3) := dk_198 0 7 (dk_at dksX17_move_0 1 rfl rfl)
theorem dX17_move_4 : decode cX17_move 4 = .ok (.iload_n 3, 1) := dk_29 (dk_at dksX17_move_0 4 rfl rfl)
theorem dX17_move_5 : decode cX17_move 5 = .ok (.ifCond .ne 10, 3) := dk_154 0 10 (dk_at dksX17_move_0 5 rfl rfl)
theorem dX17_move_8 : decode cX17_move 8 = .ok (.aload_n 0, 1) := dk_42 (dk_at dksX17_move_0 8 rfl rfl)
theorem dX17_move_9 : decode cX17_move 9 = .ok (.aload_n 1, 1) := dk_43 (dk_at dksX17_move_0 9 rfl rfl)
theorem dX17_move_10 : decode cX17_move 10 = .ok (.aload_n 2, 1) := dk_44 (dk_at dksX17_move_0 10 rfl rfl)
theorem dX17_move_11 : decode cX17_move 11 = .ok (.invokevirtual 49, 3) := dk_182 0 49 (dk_at dksX17_move_0 11 rfl rfl)
theorem dX17_move_14 : decode cX17_move 14 = .ok (.return_, 1) := dk_177 (dk_at dksX17_move_0 14 rfl rfl)
theorem dX17_move_15 : decode cX17_move 15 = .ok (.aload_n 2, 1) := dk_44 (dk_at dksX17_move_0 15 rfl rfl)
theorem dX17_move_16 : decode cX17_move 16 = .ok (.getfield 42, 3) := dk_180 0 42 (dk_at dksX17_move_0 16 rfl rfl)
theorem dX17_move_19 : decode cX17_move 19 = .ok (.bipush 20, 2) := dk_16 20 (dk_at dksX17_move_0 19 rfl rfl)
theorem dX17_move_21 : decode cX17_move 21 = .ok (.isub, 1) := dk_100 (dk_at dksX17_move_0 21 rfl rfl)
theorem dX17_move_22 : decode cX17_move 22 = .ok (.iconst 3, 1) := dk_6 (dk_at dksX17_move_0 22 rfl rfl)
theorem dX17_move_23 : decode cX17_move 23 = .ok (.irem, 1) := dk_112 (dk_at dksX17_move_0 23 rfl rfl)
theorem dX17_move_24 : decode cX17_move 24 = .ok (.iload_n 3, 1) := dk_29 (dk_at dksX17_move_1 0 rfl rfl)
theorem dX17_move_25 : decode cX17_move 25 = .ok (.iadd, 1) := dk_96 (dk_at dksX17_move_1 1 rfl rfl)
theorem dX17_move_26 : decode cX17_move 26 = .ok (.istore 4, 2) := dk_54 4 (dk_at dksX17_move_1 2 rfl rfl)
theorem dX17_move_28 : decode cX17_move 28 = .ok (.aload_n 2, 1) := dk_44 (dk_at dksX17_move_1 4 rfl rfl)
theorem dX17_move_29 : decode cX17_move 29 = .ok (.getfield 147, 3) := dk_180 0 147 (dk_at dksX17_move_1 5 rfl rfl)
theorem dX17_move_32 : decode cX17_move 32 = .ok (.ifnull 9, 3) := dk_198 0 9 (dk_at dksX17_move_1 8 rfl rfl)
theorem dX17_move_35 : decode cX17_move 35 = .ok (.iload 4, 2) := dk_21 4 (dk_at dksX17_move_1 11 rfl rfl)
theorem dX17_move_37 : decode cX17_move 37 = .ok (.iconst 3, 1) := dk_6 (dk_at dksX17_move_1 13 rfl rfl)
theorem dX17_move_38 : decode cX17_move 38 = .ok (.if_icmp .lt 16, 3) := dk_161 0 16 (dk_at dksX17_move_1 14 rfl rfl)
theorem dX17_move_41 : decode cX17_move 41 = .ok (.aload_n 0, 1) := dk_42 (dk_at dksX17_move_1 17 rfl rfl)
theorem dX17_move_42 : decode cX17_move 42 = .ok (.dup, 1) := dk_89 (dk_at dksX17_move_1 18 rfl rfl)
theorem dX17_move_43 : decode cX17_move 43 = .ok (.getfield 138, 3) := dk_180 0 138 (dk_at dksX17_move_1 19 rfl rfl)
theorem dX17_move_46 : decode cX17_move 46 = .ok (.iconst 1, 1) := dk_4 (dk_at dksX17_move_1 22 rfl rfl)
theorem dX17_move_47 : decode cX17_move 47 = .ok (.iadd, 1) := dk_96 (dk_at dksX17_move_1 23 rfl rfl)
theorem dX17_move_48 : decode cX17_move 48 = .ok (.putfield 138, 3) := dk_181 0 138 (dk_at dksX17_move_2 0 rfl rfl)
theorem dX17_move_51 : decode cX17_move 51 = .ok (.goto 15, 3) := dk_167 0 15 (dk_at dksX17_move_2 3 rfl rfl)
theorem dX17_move_54 : decode cX17_move 54 = .ok (.aload_n 0, 1) := dk_42 (dk_at dksX17_move_2 6 rfl rfl)
theorem dX17_move_55 : decode cX17_move 55 = .ok (.aload_n 1, 1) := dk_43 (dk_at dksX17_move_2 7 rfl rfl)
theorem dX17_move_56 : decode cX17_move 56 = .ok (.aload_n 2, 1) := dk_44 (dk_at dksX17_move_2 8 rfl rfl)
theorem dX17_move_57 : decode cX17_move 57 = .ok (.getfield 147, 3) := dk_180 0 147 (dk_at dksX17_move_2 9 rfl rfl)
theorem dX17_move_60 : decode cX17_move 60 = .ok (.iload 4, 2) := dk_21 4 (dk_at dksX17_move_2 12 rfl rfl)
theorem dX17_move_62 : decode cX17_move 62 = .ok (.aaload, 1) := dk_50 (dk_at dksX17_move_2 14 rfl rfl)
theorem dX17_move_63 : decode cX17_move 63 = .ok (.invokevirtual 49, 3) := dk_182 0 49 (dk_at dksX17_move_2 15 rfl rfl)
theorem dX17_move_66 : decode cX17_move 66 = .ok (.return_, 1) := dk_177 (dk_at dksX17_move_2 18 rfl rfl)
theorem q186 : (Jvm.Cond.initialized "PointerAnalyzer$Run") ∈ lw_all := lw_g (lw_at lw_m1 64 rfl) rfl
theorem q352 : (Jvm.Cond.selects "PointerAnalyzer$Run" ({ cls := "java/lang/Object", name := "getClass", desc := "()Ljava/lang/Class;" } : Jvm.MethodName) ({ cls := "java/lang/Object", name := "getClass", desc := "()Ljava/lang/Class;" } : Jvm.MethodName)) ∈ lw_all := lw_g (lw_at lw_m1 230 rfl) rfl
theorem q704 : (Jvm.Cond.fieldLinkNest "PointerAnalyzer$Run" (53 : Nat) "PointerAnalyzer$Program" "statements" "Ljava/util/ArrayList;" "PointerAnalyzer") ∈ lw_tbl := lw_at lw_m3 102 rfl
theorem q775 : (Jvm.Cond.selects "PointerAnalyzer$Run" ({ cls := "java/lang/Object", name := "equals", desc := "(Ljava/lang/Object;)Z" } : Jvm.MethodName) ({ cls := "java/lang/Object", name := "equals", desc := "(Ljava/lang/Object;)Z" } : Jvm.MethodName)) ∈ lw_all := lw_g (lw_at lw_m3 173 rfl) rfl
theorem q1178 : (Jvm.Cond.fieldLinkNest "PointerAnalyzer$Run" (71 : Nat) "PointerAnalyzer$Statement" "function" "I" "PointerAnalyzer") ∈ lw_tbl := lw_at lw_m5 96 rfl
theorem q1187 : (Jvm.Cond.fieldLinkNest "PointerAnalyzer$Run" (95 : Nat) "PointerAnalyzer$Statement" "line" "LPointerAnalyzer$Line;" "PointerAnalyzer") ∈ lw_tbl := lw_at lw_m5 105 rfl
theorem q1193 : (Jvm.Cond.fieldLinkNest "PointerAnalyzer$Run" (123 : Nat) "PointerAnalyzer$Statement" "site" "I" "PointerAnalyzer") ∈ lw_tbl := lw_at lw_m5 111 rfl
theorem q2264 : (Jvm.Cond.instantiable "PointerAnalyzer$Run" (7 : Nat)) ∈ lw_all := lw_g (lw_at lw_m9 222 rfl) rfl
theorem q2266 : (Jvm.Cond.instanceMethod ({ cls := "PointerAnalyzer$Run", name := "<init>", desc := "(LPointerAnalyzer$Program;)V" } : Jvm.MethodName)) ∈ lw_all := lw_g (lw_at lw_m9 224 rfl) rfl
theorem q2267 : (Jvm.Cond.codeWith ({ cls := "PointerAnalyzer$Run", name := "<init>", desc := "(LPointerAnalyzer$Program;)V" } : Jvm.MethodName) prog_15_method_1_code (3 : Nat) (Option.none : Option Jvm.ClassFile.FieldType) [((53 : Nat), (60 : Nat), (63 : Nat), (32 : Nat))]) ∈ lw_all := lw_g (lw_at lw_m9 225 rfl) rfl
theorem q2268 : (Jvm.Cond.classLink "PointerAnalyzer$Run" (32 : Nat) "PointerAnalyzer$OverException") ∈ lw_all := lw_g (lw_at lw_m9 226 rfl) rfl
theorem q2269 : (Jvm.Cond.methodLink "PointerAnalyzer$Run" (3 : Nat) ({ cls := "java/lang/Object", name := "<init>", desc := "()V" } : Jvm.MethodName)) ∈ lw_all := lw_g (lw_at lw_m9 227 rfl) rfl
theorem q2270 : (Jvm.Cond.classLink "PointerAnalyzer$Run" (9 : Nat) "PointerAnalyzer$Place") ∈ lw_all := lw_g (lw_at lw_m9 228 rfl) rfl
theorem q2273 : (Jvm.Cond.methodLink "PointerAnalyzer$Run" (25 : Nat) ({ cls := "PointerAnalyzer$Place", name := "<init>", desc := "(I[LPointerAnalyzer$Place;)V" } : Jvm.MethodName)) ∈ lw_all := lw_g (lw_at lw_m9 231 rfl) rfl
theorem q2278 : (Jvm.Cond.fieldLinkNest "PointerAnalyzer$Run" (42 : Nat) "PointerAnalyzer$Place" "code" "I" "PointerAnalyzer") ∈ lw_tbl := lw_at lw_m9 236 rfl
theorem q2280 : (Jvm.Cond.fieldLinkNest "PointerAnalyzer$Run" (147 : Nat) "PointerAnalyzer$Place" "object" "[LPointerAnalyzer$Place;" "PointerAnalyzer") ∈ lw_tbl := lw_at lw_m9 238 rfl
theorem q2281 : (Jvm.Cond.fieldLinkNest "PointerAnalyzer$Run" (38 : Nat) "PointerAnalyzer$Place" "value" "LPointerAnalyzer$Place;" "PointerAnalyzer") ∈ lw_tbl := lw_at lw_m9 239 rfl
theorem q2289 : (Jvm.Cond.methodLink "PointerAnalyzer$Run" (28 : Nat) ({ cls := "PointerAnalyzer$Run", name := "activate", desc := "(ILPointerAnalyzer$Place;)LPointerAnalyzer$Place;" } : Jvm.MethodName)) ∈ lw_all := lw_g (lw_at lw_m10 7 rfl) rfl
theorem q2290 : (Jvm.Cond.privateMethod ({ cls := "PointerAnalyzer$Run", name := "activate", desc := "(ILPointerAnalyzer$Place;)LPointerAnalyzer$Place;" } : Jvm.MethodName)) ∈ lw_tbl := lw_at lw_m10 8 rfl
theorem q2291 : (Jvm.Cond.instanceMethod ({ cls := "PointerAnalyzer$Run", name := "activate", desc := "(ILPointerAnalyzer$Place;)LPointerAnalyzer$Place;" } : Jvm.MethodName)) ∈ lw_all := lw_g (lw_at lw_m10 9 rfl) rfl
theorem q2292 : (Jvm.Cond.code ({ cls := "PointerAnalyzer$Run", name := "activate", desc := "(ILPointerAnalyzer$Place;)LPointerAnalyzer$Place;" } : Jvm.MethodName) prog_15_method_3_code (5 : Nat) (Option.some (Jvm.ClassFile.FieldType.object "PointerAnalyzer$Place"))) ∈ lw_all := lw_g (lw_at lw_m10 10 rfl) rfl
theorem q2293 : (Jvm.Cond.methodLinkNest "PointerAnalyzer$Run" (45 : Nat) ({ cls := "PointerAnalyzer", name := "local", desc := "(II)I" } : Jvm.MethodName) "PointerAnalyzer") ∈ lw_tbl := lw_at lw_m10 11 rfl
theorem q2294 : (Jvm.Cond.methodLink "PointerAnalyzer$Run" (49 : Nat) ({ cls := "PointerAnalyzer$Run", name := "assign", desc := "(LPointerAnalyzer$Place;LPointerAnalyzer$Place;)V" } : Jvm.MethodName)) ∈ lw_all := lw_g (lw_at lw_m10 12 rfl) rfl
theorem q2295 : (Jvm.Cond.privateMethod ({ cls := "PointerAnalyzer$Run", name := "assign", desc := "(LPointerAnalyzer$Place;LPointerAnalyzer$Place;)V" } : Jvm.MethodName)) ∈ lw_tbl := lw_at lw_m10 13 rfl
theorem q2296 : (Jvm.Cond.instanceMethod ({ cls := "PointerAnalyzer$Run", name := "assign", desc := "(LPointerAnalyzer$Place;LPointerAnalyzer$Place;)V" } : Jvm.MethodName)) ∈ lw_all := lw_g (lw_at lw_m10 14 rfl) rfl
theorem q2297 : (Jvm.Cond.code ({ cls := "PointerAnalyzer$Run", name := "assign", desc := "(LPointerAnalyzer$Place;LPointerAnalyzer$Place;)V" } : Jvm.MethodName) prog_15_method_2_code (3 : Nat) (Option.none : Option Jvm.ClassFile.FieldType)) ∈ lw_all := lw_g (lw_at lw_m10 15 rfl) rfl
theorem q2298 : (Jvm.Cond.methodLink "PointerAnalyzer$Run" (59 : Nat) ({ cls := "java/util/ArrayList", name := "size", desc := "()I" } : Jvm.MethodName)) ∈ lw_all := lw_g (lw_at lw_m10 16 rfl) rfl
theorem q2299 : (Jvm.Cond.methodLink "PointerAnalyzer$Run" (65 : Nat) ({ cls := "java/util/ArrayList", name := "get", desc := "(I)Ljava/lang/Object;" } : Jvm.MethodName)) ∈ lw_all := lw_g (lw_at lw_m10 17 rfl) rfl
theorem q2300 : (Jvm.Cond.classLink "PointerAnalyzer$Run" (69 : Nat) "PointerAnalyzer$Statement") ∈ lw_all := lw_g (lw_at lw_m10 18 rfl) rfl
theorem q2301 : (Jvm.Cond.methodLink "PointerAnalyzer$Run" (74 : Nat) ({ cls := "PointerAnalyzer$Run", name := "execute", desc := "(LPointerAnalyzer$Statement;[LPointerAnalyzer$Place;)V" } : Jvm.MethodName)) ∈ lw_all := lw_g (lw_at lw_m10 19 rfl) rfl
theorem q2302 : (Jvm.Cond.privateMethod ({ cls := "PointerAnalyzer$Run", name := "execute", desc := "(LPointerAnalyzer$Statement;[LPointerAnalyzer$Place;)V" } : Jvm.MethodName)) ∈ lw_tbl := lw_at lw_m10 20 rfl
theorem q2303 : (Jvm.Cond.instanceMethod ({ cls := "PointerAnalyzer$Run", name := "execute", desc := "(LPointerAnalyzer$Statement;[LPointerAnalyzer$Place;)V" } : Jvm.MethodName)) ∈ lw_all := lw_g (lw_at lw_m10 21 rfl) rfl
theorem q2304 : (Jvm.Cond.code ({ cls := "PointerAnalyzer$Run", name := "execute", desc := "(LPointerAnalyzer$Statement;[LPointerAnalyzer$Place;)V" } : Jvm.MethodName) prog_15_method_5_code (6 : Nat) (Option.none : Option Jvm.ClassFile.FieldType)) ∈ lw_all := lw_g (lw_at lw_m10 22 rfl) rfl
theorem q2305 : (Jvm.Cond.fieldLink "PointerAnalyzer$Run" (81 : Nat) "PointerAnalyzer$Kind" "CALL" "LPointerAnalyzer$Kind;") ∈ lw_all := lw_g (lw_at lw_m10 23 rfl) rfl
theorem q2306 : (Jvm.Cond.methodLink "PointerAnalyzer$Run" (87 : Nat) ({ cls := "PointerAnalyzer$Statement", name := "is", desc := "(LPointerAnalyzer$Kind;)Z" } : Jvm.MethodName)) ∈ lw_all := lw_g (lw_at lw_m10 24 rfl) rfl
theorem q2307 : (Jvm.Cond.methodLink "PointerAnalyzer$Run" (91 : Nat) ({ cls := "PointerAnalyzer$Run", name := "requireTime", desc := "(Z)V" } : Jvm.MethodName)) ∈ lw_all := lw_g (lw_at lw_m10 25 rfl) rfl
theorem q2308 : (Jvm.Cond.privateMethod ({ cls := "PointerAnalyzer$Run", name := "requireTime", desc := "(Z)V" } : Jvm.MethodName)) ∈ lw_tbl := lw_at lw_m10 26 rfl
theorem q2309 : (Jvm.Cond.instanceMethod ({ cls := "PointerAnalyzer$Run", name := "requireTime", desc := "(Z)V" } : Jvm.MethodName)) ∈ lw_all := lw_g (lw_at lw_m10 27 rfl) rfl
theorem q2310 : (Jvm.Cond.code ({ cls := "PointerAnalyzer$Run", name := "requireTime", desc := "(Z)V" } : Jvm.MethodName) prog_15_method_6_code (2 : Nat) (Option.none : Option Jvm.ClassFile.FieldType)) ∈ lw_all := lw_g (lw_at lw_m10 28 rfl) rfl
theorem q2319 : (Jvm.Cond.methodLink "PointerAnalyzer$Run" (137 : Nat) ({ cls := "PointerAnalyzer$OverException", name := "<init>", desc := "()V" } : Jvm.MethodName)) ∈ lw_all := lw_g (lw_at lw_m10 37 rfl) rfl
theorem q2330 : (Jvm.Cond.methodLink "PointerAnalyzer$Run" (104 : Nat) ({ cls := "PointerAnalyzer$Run", name := "place", desc := "(I[LPointerAnalyzer$Place;)LPointerAnalyzer$Place;" } : Jvm.MethodName)) ∈ lw_all := lw_g (lw_at lw_m10 48 rfl) rfl
theorem q2331 : (Jvm.Cond.privateMethod ({ cls := "PointerAnalyzer$Run", name := "place", desc := "(I[LPointerAnalyzer$Place;)LPointerAnalyzer$Place;" } : Jvm.MethodName)) ∈ lw_tbl := lw_at lw_m10 49 rfl
theorem q2332 : (Jvm.Cond.instanceMethod ({ cls := "PointerAnalyzer$Run", name := "place", desc := "(I[LPointerAnalyzer$Place;)LPointerAnalyzer$Place;" } : Jvm.MethodName)) ∈ lw_all := lw_g (lw_at lw_m10 50 rfl) rfl
theorem q2333 : (Jvm.Cond.code ({ cls := "PointerAnalyzer$Run", name := "place", desc := "(I[LPointerAnalyzer$Place;)LPointerAnalyzer$Place;" } : Jvm.MethodName) prog_15_method_4_code (3 : Nat) (Option.some (Jvm.ClassFile.FieldType.object "PointerAnalyzer$Place"))) ∈ lw_all := lw_g (lw_at lw_m10 51 rfl) rfl
theorem q2334 : (Jvm.Cond.methodLink "PointerAnalyzer$Run" (114 : Nat) ({ cls := "PointerAnalyzer$Kind", name := "ordinal", desc := "()I" } : Jvm.MethodName)) ∈ lw_all := lw_g (lw_at lw_m10 52 rfl) rfl
theorem q2335 : (Jvm.Cond.methodLink "PointerAnalyzer$Run" (117 : Nat) ({ cls := "PointerAnalyzer$Run", name := "load", desc := "(LPointerAnalyzer$Place;LPointerAnalyzer$Place;)V" } : Jvm.MethodName)) ∈ lw_all := lw_g (lw_at lw_m10 53 rfl) rfl
theorem q2336 : (Jvm.Cond.privateMethod ({ cls := "PointerAnalyzer$Run", name := "load", desc := "(LPointerAnalyzer$Place;LPointerAnalyzer$Place;)V" } : Jvm.MethodName)) ∈ lw_tbl := lw_at lw_m10 54 rfl
theorem q2337 : (Jvm.Cond.instanceMethod ({ cls := "PointerAnalyzer$Run", name := "load", desc := "(LPointerAnalyzer$Place;LPointerAnalyzer$Place;)V" } : Jvm.MethodName)) ∈ lw_all := lw_g (lw_at lw_m10 55 rfl) rfl
theorem q2338 : (Jvm.Cond.code ({ cls := "PointerAnalyzer$Run", name := "load", desc := "(LPointerAnalyzer$Place;LPointerAnalyzer$Place;)V" } : Jvm.MethodName) prog_15_method_7_code (3 : Nat) (Option.none : Option Jvm.ClassFile.FieldType)) ∈ lw_all := lw_g (lw_at lw_m10 56 rfl) rfl
theorem q2339 : (Jvm.Cond.methodLink "PointerAnalyzer$Run" (120 : Nat) ({ cls := "PointerAnalyzer$Run", name := "store", desc := "(LPointerAnalyzer$Place;LPointerAnalyzer$Place;)V" } : Jvm.MethodName)) ∈ lw_all := lw_g (lw_at lw_m10 57 rfl) rfl
theorem q2340 : (Jvm.Cond.privateMethod ({ cls := "PointerAnalyzer$Run", name := "store", desc := "(LPointerAnalyzer$Place;LPointerAnalyzer$Place;)V" } : Jvm.MethodName)) ∈ lw_tbl := lw_at lw_m10 58 rfl
theorem q2341 : (Jvm.Cond.instanceMethod ({ cls := "PointerAnalyzer$Run", name := "store", desc := "(LPointerAnalyzer$Place;LPointerAnalyzer$Place;)V" } : Jvm.MethodName)) ∈ lw_all := lw_g (lw_at lw_m10 59 rfl) rfl
theorem q2342 : (Jvm.Cond.code ({ cls := "PointerAnalyzer$Run", name := "store", desc := "(LPointerAnalyzer$Place;LPointerAnalyzer$Place;)V" } : Jvm.MethodName) prog_15_method_8_code (3 : Nat) (Option.none : Option Jvm.ClassFile.FieldType)) ∈ lw_all := lw_g (lw_at lw_m10 60 rfl) rfl
theorem q2343 : (Jvm.Cond.methodLink "PointerAnalyzer$Run" (126 : Nat) ({ cls := "PointerAnalyzer$Run", name := "allocate", desc := "(I)LPointerAnalyzer$Place;" } : Jvm.MethodName)) ∈ lw_all := lw_g (lw_at lw_m10 61 rfl) rfl
theorem q2344 : (Jvm.Cond.privateMethod ({ cls := "PointerAnalyzer$Run", name := "allocate", desc := "(I)LPointerAnalyzer$Place;" } : Jvm.MethodName)) ∈ lw_tbl := lw_at lw_m10 62 rfl
theorem q2345 : (Jvm.Cond.instanceMethod ({ cls := "PointerAnalyzer$Run", name := "allocate", desc := "(I)LPointerAnalyzer$Place;" } : Jvm.MethodName)) ∈ lw_all := lw_g (lw_at lw_m10 63 rfl) rfl
theorem q2346 : (Jvm.Cond.code ({ cls := "PointerAnalyzer$Run", name := "allocate", desc := "(I)LPointerAnalyzer$Place;" } : Jvm.MethodName) prog_15_method_9_code (4 : Nat) (Option.some (Jvm.ClassFile.FieldType.object "PointerAnalyzer$Place"))) ∈ lw_all := lw_g (lw_at lw_m10 64 rfl) rfl
theorem q2347 : (Jvm.Cond.methodLinkNest "PointerAnalyzer$Run" (141 : Nat) ({ cls := "PointerAnalyzer", name := "fieldCode", desc := "(II)I" } : Jvm.MethodName) "PointerAnalyzer") ∈ lw_tbl := lw_at lw_m10 65 rfl
theorem q2348 : (Jvm.Cond.methodLink "PointerAnalyzer$Run" (133 : Nat) ({ cls := "PointerAnalyzer$Run", name := "move", desc := "(LPointerAnalyzer$Place;LPointerAnalyzer$Place;I)V" } : Jvm.MethodName)) ∈ lw_all := lw_g (lw_at lw_m10 66 rfl) rfl
theorem q2349 : (Jvm.Cond.privateMethod ({ cls := "PointerAnalyzer$Run", name := "move", desc := "(LPointerAnalyzer$Place;LPointerAnalyzer$Place;I)V" } : Jvm.MethodName)) ∈ lw_tbl := lw_at lw_m10 67 rfl
theorem q2350 : (Jvm.Cond.instanceMethod ({ cls := "PointerAnalyzer$Run", name := "move", desc := "(LPointerAnalyzer$Place;LPointerAnalyzer$Place;I)V" } : Jvm.MethodName)) ∈ lw_all := lw_g (lw_at lw_m10 68 rfl) rfl
theorem q2351 : (Jvm.Cond.code ({ cls := "PointerAnalyzer$Run", name := "move", desc := "(LPointerAnalyzer$Place;LPointerAnalyzer$Place;I)V" } : Jvm.MethodName) prog_15_method_10_code (5 : Nat) (Option.none : Option Jvm.ClassFile.FieldType)) ∈ lw_all := lw_g (lw_at lw_m10 69 rfl) rfl
theorem q2352 : (Jvm.Cond.fieldLink "PointerAnalyzer$Run" (21 : Nat) "PointerAnalyzer$Run" "program" "LPointerAnalyzer$Program;") ∈ lw_all := lw_g (lw_at lw_m10 70 rfl) rfl
theorem q2353 : (Jvm.Cond.fieldLink "PointerAnalyzer$Run" (11 : Nat) "PointerAnalyzer$Run" "globals" "[LPointerAnalyzer$Place;") ∈ lw_all := lw_g (lw_at lw_m10 71 rfl) rfl
theorem q2354 : (Jvm.Cond.fieldLink "PointerAnalyzer$Run" (17 : Nat) "PointerAnalyzer$Run" "observed" "[J") ∈ lw_all := lw_g (lw_at lw_m10 72 rfl) rfl
theorem q2356 : (Jvm.Cond.fieldLink "PointerAnalyzer$Run" (78 : Nat) "PointerAnalyzer$Run" "executed" "I") ∈ lw_all := lw_g (lw_at lw_m10 74 rfl) rfl
theorem q2358 : (Jvm.Cond.fieldLink "PointerAnalyzer$Run" (138 : Nat) "PointerAnalyzer$Run" "faults" "I") ∈ lw_all := lw_g (lw_at lw_m10 76 rfl) rfl
theorem q2360 : (Jvm.Cond.fieldLink "PointerAnalyzer$Run" (144 : Nat) "PointerAnalyzer$Run" "objects" "I") ∈ lw_all := lw_g (lw_at lw_m10 78 rfl) rfl
theorem q2362 : (Jvm.Cond.fieldLink "PointerAnalyzer$Run" (34 : Nat) "PointerAnalyzer$Run" "open" "I") ∈ lw_all := lw_g (lw_at lw_m10 80 rfl) rfl
theorem q2363 : (Jvm.Cond.laysFinal "PointerAnalyzer$Run" "PointerAnalyzer$Run" "program" "LPointerAnalyzer$Program;") ∈ lw_all := lw_g (lw_at lw_m10 81 rfl) rfl
theorem q2364 : (Jvm.Cond.soleField "PointerAnalyzer$Run" "program") ∈ lw_all := lw_g (lw_at lw_m10 82 rfl) rfl
theorem q2365 : (Jvm.Cond.laysFinal "PointerAnalyzer$Run" "PointerAnalyzer$Run" "globals" "[LPointerAnalyzer$Place;") ∈ lw_all := lw_g (lw_at lw_m10 83 rfl) rfl
theorem q2366 : (Jvm.Cond.soleField "PointerAnalyzer$Run" "globals") ∈ lw_all := lw_g (lw_at lw_m10 84 rfl) rfl
theorem q2367 : (Jvm.Cond.laysFinal "PointerAnalyzer$Run" "PointerAnalyzer$Run" "observed" "[J") ∈ lw_all := lw_g (lw_at lw_m10 85 rfl) rfl
theorem q2368 : (Jvm.Cond.soleField "PointerAnalyzer$Run" "observed") ∈ lw_all := lw_g (lw_at lw_m10 86 rfl) rfl
theorem q2369 : (Jvm.Cond.lays "PointerAnalyzer$Run" "PointerAnalyzer$Run" "executed" "I") ∈ lw_all := lw_g (lw_at lw_m10 87 rfl) rfl
theorem q2370 : (Jvm.Cond.soleField "PointerAnalyzer$Run" "executed") ∈ lw_all := lw_g (lw_at lw_m10 88 rfl) rfl
theorem q2371 : (Jvm.Cond.lays "PointerAnalyzer$Run" "PointerAnalyzer$Run" "faults" "I") ∈ lw_all := lw_g (lw_at lw_m10 89 rfl) rfl
theorem q2372 : (Jvm.Cond.soleField "PointerAnalyzer$Run" "faults") ∈ lw_all := lw_g (lw_at lw_m10 90 rfl) rfl
theorem q2373 : (Jvm.Cond.lays "PointerAnalyzer$Run" "PointerAnalyzer$Run" "objects" "I") ∈ lw_all := lw_g (lw_at lw_m10 91 rfl) rfl
theorem q2374 : (Jvm.Cond.soleField "PointerAnalyzer$Run" "objects") ∈ lw_all := lw_g (lw_at lw_m10 92 rfl) rfl
theorem q2375 : (Jvm.Cond.lays "PointerAnalyzer$Run" "PointerAnalyzer$Run" "open" "I") ∈ lw_all := lw_g (lw_at lw_m10 93 rfl) rfl
theorem q2376 : (Jvm.Cond.soleField "PointerAnalyzer$Run" "open") ∈ lw_all := lw_g (lw_at lw_m10 94 rfl) rfl
theorem q2377 : (Jvm.Cond.superclass "PointerAnalyzer$Run" "java/lang/Object") ∈ lw_all := lw_g (lw_at lw_m10 95 rfl) rfl
theorem q2597 : (Jvm.Cond.fieldLinkNest "PointerAnalyzer$Run" (111 : Nat) "PointerAnalyzer$Line" "kind" "LPointerAnalyzer$Kind;" "PointerAnalyzer") ∈ lw_tbl := lw_at lw_m11 75 rfl
theorem q2603 : (Jvm.Cond.fieldLinkNest "PointerAnalyzer$Run" (99 : Nat) "PointerAnalyzer$Line" "left" "I" "PointerAnalyzer") ∈ lw_tbl := lw_at lw_m11 81 rfl
theorem q2609 : (Jvm.Cond.fieldLinkNest "PointerAnalyzer$Run" (108 : Nat) "PointerAnalyzer$Line" "right" "I" "PointerAnalyzer") ∈ lw_tbl := lw_at lw_m11 87 rfl
theorem q2617 : (Jvm.Cond.fieldLinkNest "PointerAnalyzer$Run" (130 : Nat) "PointerAnalyzer$Line" "extra" "I" "PointerAnalyzer") ∈ lw_tbl := lw_at lw_m11 95 rfl
theorem q3499 : (Jvm.Cond.castable "PointerAnalyzer$Run" "java/lang/Object") ∈ lw_tbl := lw_at lw_m15 17 rfl
theorem in_X17 : ∀ w ∈ wsX170, w ∈ lw_all := lw_in wsX170 [2363, 2365, 2367, 2369, 2371, 2373, 2375] (by decide +kernel) (by decide +kernel)

/-! PointerAnalyzer$Place -/
set_option maxRecDepth 100000
def RX18 : String := "PointerAnalyzer$Place"
def TX18 : u_T := fun k => match k with
  | 0 => ("PointerAnalyzer$Place", "code", "I", true)
  | 1 => ("PointerAnalyzer$Place", "object", "[LPointerAnalyzer$Place;", true)
  | _ => ("PointerAnalyzer$Place", "value", "LPointerAnalyzer$Place;", false)
def tyX18 : Nat → FieldType := fun k => match k with
  | 0 => .int
  | 1 => .array (.object "PointerAnalyzer$Place")
  | _ => .object "PointerAnalyzer$Place"
abbrev wsX180 : List Cond := u_ws RX18 TX18 3
theorem nmX18 : ∀ a, a < 3 → ∀ b, b < 3 → a ≠ b → (TX18 a).2.1 ≠ (TX18 b).2.1 := by decide +kernel
theorem tyX18_ok : ∀ k, k < 3 → parseFieldDescriptor (TX18 k).2.2.1 = some (tyX18 k) := by decide +kernel
abbrev cX18_init : ByteArray := prog_11_method_1_code
def yX18_init : MethodName := ⟨RX18, "<init>", "(I[LPointerAnalyzer$Place;)V"⟩
def dkwX18_init_0 : List UInt8 := [42, 183, 0, 1, 42, 27, 181, 0, 7, 42, 44, 181, 0, 13, 177]
abbrev dktX18_init_0 : List UInt8 := dkwX18_init_0 ++ []
theorem dksX18_init_0 : cX18_init.data.toList.drop 0 = dktX18_init_0 := by decide +kernel
theorem dX18_init_0 : decode cX18_init 0 = .ok (.aload_n 0, 1) := dk_42 (dk_at dksX18_init_0 0 rfl rfl)
theorem dX18_init_1 : decode cX18_init 1 = .ok (.invokespecial 1, 3) := dk_183 0 1 (dk_at dksX18_init_0 1 rfl rfl)
theorem dX18_init_4 : decode cX18_init 4 = .ok (.aload_n 0, 1) := dk_42 (dk_at dksX18_init_0 4 rfl rfl)
theorem dX18_init_5 : decode cX18_init 5 = .ok (.iload_n 1, 1) := dk_27 (dk_at dksX18_init_0 5 rfl rfl)
theorem dX18_init_6 : decode cX18_init 6 = .ok (.putfield 7, 3) := dk_181 0 7 (dk_at dksX18_init_0 6 rfl rfl)
theorem dX18_init_9 : decode cX18_init 9 = .ok (.aload_n 0, 1) := dk_42 (dk_at dksX18_init_0 9 rfl rfl)
theorem dX18_init_10 : decode cX18_init 10 = .ok (.aload_n 2, 1) := dk_44 (dk_at dksX18_init_0 10 rfl rfl)
theorem dX18_init_11 : decode cX18_init 11 = .ok (.putfield 13, 3) := dk_181 0 13 (dk_at dksX18_init_0 11 rfl rfl)
theorem dX18_init_14 : decode cX18_init 14 = .ok (.return_, 1) := dk_177 (dk_at dksX18_init_0 14 rfl rfl)
theorem q187 : (Jvm.Cond.initialized "PointerAnalyzer$Place") ∈ lw_all := lw_g (lw_at lw_m1 65 rfl) rfl
theorem q348 : (Jvm.Cond.selects "PointerAnalyzer$Place" ({ cls := "java/lang/Object", name := "getClass", desc := "()Ljava/lang/Class;" } : Jvm.MethodName) ({ cls := "java/lang/Object", name := "getClass", desc := "()Ljava/lang/Class;" } : Jvm.MethodName)) ∈ lw_all := lw_g (lw_at lw_m1 226 rfl) rfl
theorem q771 : (Jvm.Cond.selects "PointerAnalyzer$Place" ({ cls := "java/lang/Object", name := "equals", desc := "(Ljava/lang/Object;)Z" } : Jvm.MethodName) ({ cls := "java/lang/Object", name := "equals", desc := "(Ljava/lang/Object;)Z" } : Jvm.MethodName)) ∈ lw_all := lw_g (lw_at lw_m3 169 rfl) rfl
theorem q2272 : (Jvm.Cond.instantiable "PointerAnalyzer$Place" (3 : Nat)) ∈ lw_all := lw_g (lw_at lw_m9 230 rfl) rfl
theorem q2274 : (Jvm.Cond.instanceMethod ({ cls := "PointerAnalyzer$Place", name := "<init>", desc := "(I[LPointerAnalyzer$Place;)V" } : Jvm.MethodName)) ∈ lw_all := lw_g (lw_at lw_m9 232 rfl) rfl
theorem q2275 : (Jvm.Cond.code ({ cls := "PointerAnalyzer$Place", name := "<init>", desc := "(I[LPointerAnalyzer$Place;)V" } : Jvm.MethodName) prog_11_method_1_code (3 : Nat) (Option.none : Option Jvm.ClassFile.FieldType)) ∈ lw_all := lw_g (lw_at lw_m9 233 rfl) rfl
theorem q2276 : (Jvm.Cond.methodLink "PointerAnalyzer$Place" (1 : Nat) ({ cls := "java/lang/Object", name := "<init>", desc := "()V" } : Jvm.MethodName)) ∈ lw_all := lw_g (lw_at lw_m9 234 rfl) rfl
theorem q2277 : (Jvm.Cond.fieldLink "PointerAnalyzer$Place" (7 : Nat) "PointerAnalyzer$Place" "code" "I") ∈ lw_all := lw_g (lw_at lw_m9 235 rfl) rfl
theorem q2279 : (Jvm.Cond.fieldLink "PointerAnalyzer$Place" (13 : Nat) "PointerAnalyzer$Place" "object" "[LPointerAnalyzer$Place;") ∈ lw_all := lw_g (lw_at lw_m9 237 rfl) rfl
theorem q2282 : (Jvm.Cond.laysFinal "PointerAnalyzer$Place" "PointerAnalyzer$Place" "code" "I") ∈ lw_all := lw_g (lw_at lw_m10 0 rfl) rfl
theorem q2283 : (Jvm.Cond.soleField "PointerAnalyzer$Place" "code") ∈ lw_all := lw_g (lw_at lw_m10 1 rfl) rfl
theorem q2284 : (Jvm.Cond.laysFinal "PointerAnalyzer$Place" "PointerAnalyzer$Place" "object" "[LPointerAnalyzer$Place;") ∈ lw_all := lw_g (lw_at lw_m10 2 rfl) rfl
theorem q2285 : (Jvm.Cond.soleField "PointerAnalyzer$Place" "object") ∈ lw_all := lw_g (lw_at lw_m10 3 rfl) rfl
theorem q2286 : (Jvm.Cond.lays "PointerAnalyzer$Place" "PointerAnalyzer$Place" "value" "LPointerAnalyzer$Place;") ∈ lw_all := lw_g (lw_at lw_m10 4 rfl) rfl
theorem q2287 : (Jvm.Cond.soleField "PointerAnalyzer$Place" "value") ∈ lw_all := lw_g (lw_at lw_m10 5 rfl) rfl
theorem q2288 : (Jvm.Cond.superclass "PointerAnalyzer$Place" "java/lang/Object") ∈ lw_all := lw_g (lw_at lw_m10 6 rfl) rfl
theorem q3462 : (Jvm.Cond.castable "PointerAnalyzer$Place" "java/lang/Object") ∈ lw_tbl := lw_at lw_m14 220 rfl
theorem in_X18 : ∀ w ∈ wsX180, w ∈ lw_all := lw_in wsX180 [2282, 2284, 2286] (by decide +kernel) (by decide +kernel)

/-! PointerAnalyzer$OverException -/
set_option maxRecDepth 100000
def RX19 : String := "PointerAnalyzer$OverException"
def TX19 : u_T := fun k => match k with
  | 0 => ("java/lang/Throwable", "cause", "Ljava/lang/Throwable;", false)
  | 1 => ("java/lang/Throwable", "stackTrace", "[Ljava/lang/StackTraceElement;", false)
  | 2 => ("java/lang/Throwable", "suppressedExceptions", "Ljava/util/List;", false)
  | 3 => ("java/lang/Throwable", "detailMessage", "Ljava/lang/String;", false)
  | 4 => ("java/lang/Throwable", "backtrace", "Ljava/lang/Object;", false)
  | _ => ("java/lang/Throwable", "depth", "I", false)
def tyX19 : Nat → FieldType := fun k => match k with
  | 0 => .object "java/lang/Throwable"
  | 1 => .array (.object "java/lang/StackTraceElement")
  | 2 => .object "java/util/List"
  | 3 => .object "java/lang/String"
  | 4 => .object "java/lang/Object"
  | _ => .int
abbrev wsX190 : List Cond := u_ws RX19 TX19 6
theorem nmX19 : ∀ a, a < 6 → ∀ b, b < 6 → a ≠ b → (TX19 a).2.1 ≠ (TX19 b).2.1 := by decide +kernel
theorem tyX19_ok : ∀ k, k < 6 → parseFieldDescriptor (TX19 k).2.2.1 = some (tyX19 k) := by decide +kernel
abbrev cX19_init : ByteArray := prog_10_method_1_code
def yX19_init : MethodName := ⟨RX19, "<init>", "()V"⟩
def dkwX19_init_0 : List UInt8 := [42, 1, 1, 3, 3, 183, 0, 1, 177]
abbrev dktX19_init_0 : List UInt8 := dkwX19_init_0 ++ []
theorem dksX19_init_0 : cX19_init.data.toList.drop 0 = dktX19_init_0 := by decide +kernel
theorem dX19_init_0 : decode cX19_init 0 = .ok (.aload_n 0, 1) := dk_42 (dk_at dksX19_init_0 0 rfl rfl)
theorem dX19_init_1 : decode cX19_init 1 = .ok (.aconst_null, 1) := dk_1 (dk_at dksX19_init_0 1 rfl rfl)
theorem dX19_init_2 : decode cX19_init 2 = .ok (.aconst_null, 1) := dk_1 (dk_at dksX19_init_0 2 rfl rfl)
theorem dX19_init_3 : decode cX19_init 3 = .ok (.iconst 0, 1) := dk_3 (dk_at dksX19_init_0 3 rfl rfl)
theorem dX19_init_4 : decode cX19_init 4 = .ok (.iconst 0, 1) := dk_3 (dk_at dksX19_init_0 4 rfl rfl)
theorem dX19_init_5 : decode cX19_init 5 = .ok (.invokespecial 1, 3) := dk_183 0 1 (dk_at dksX19_init_0 5 rfl rfl)
theorem dX19_init_8 : decode cX19_init 8 = .ok (.return_, 1) := dk_177 (dk_at dksX19_init_0 8 rfl rfl)
theorem q188 : (Jvm.Cond.initialized "PointerAnalyzer$OverException") ∈ lw_all := lw_g (lw_at lw_m1 66 rfl) rfl
theorem q347 : (Jvm.Cond.selects "PointerAnalyzer$OverException" ({ cls := "java/lang/Object", name := "getClass", desc := "()Ljava/lang/Class;" } : Jvm.MethodName) ({ cls := "java/lang/Object", name := "getClass", desc := "()Ljava/lang/Class;" } : Jvm.MethodName)) ∈ lw_all := lw_g (lw_at lw_m1 225 rfl) rfl
theorem q770 : (Jvm.Cond.selects "PointerAnalyzer$OverException" ({ cls := "java/lang/Object", name := "equals", desc := "(Ljava/lang/Object;)Z" } : Jvm.MethodName) ({ cls := "java/lang/Object", name := "equals", desc := "(Ljava/lang/Object;)Z" } : Jvm.MethodName)) ∈ lw_all := lw_g (lw_at lw_m3 168 rfl) rfl
theorem q981 : (Jvm.Cond.selects "PointerAnalyzer$OverException" ({ cls := "java/lang/Throwable", name := "fillInStackTrace", desc := "()Ljava/lang/Throwable;" } : Jvm.MethodName) ({ cls := "java/lang/Throwable", name := "fillInStackTrace", desc := "()Ljava/lang/Throwable;" } : Jvm.MethodName)) ∈ lw_all := lw_g (lw_at lw_m4 139 rfl) rfl
theorem q2311 : (Jvm.Cond.instantiable "PointerAnalyzer$OverException" (6 : Nat)) ∈ lw_all := lw_g (lw_at lw_m10 29 rfl) rfl
theorem q2312 : (Jvm.Cond.castable "PointerAnalyzer$OverException" "PointerAnalyzer$OverException") ∈ lw_tbl := lw_at lw_m10 30 rfl
theorem q2313 : (Jvm.Cond.selects "PointerAnalyzer$OverException" ({ cls := "java/lang/Throwable", name := "fillInStackTrace", desc := "(I)Ljava/lang/Throwable;" } : Jvm.MethodName) ({ cls := "java/lang/Throwable", name := "fillInStackTrace", desc := "(I)Ljava/lang/Throwable;" } : Jvm.MethodName)) ∈ lw_all := lw_g (lw_at lw_m10 31 rfl) rfl
theorem q2314 : (Jvm.Cond.lays "PointerAnalyzer$OverException" "java/lang/Throwable" "cause" "Ljava/lang/Throwable;") ∈ lw_all := lw_g (lw_at lw_m10 32 rfl) rfl
theorem q2315 : (Jvm.Cond.lays "PointerAnalyzer$OverException" "java/lang/Throwable" "stackTrace" "[Ljava/lang/StackTraceElement;") ∈ lw_all := lw_g (lw_at lw_m10 33 rfl) rfl
theorem q2316 : (Jvm.Cond.lays "PointerAnalyzer$OverException" "java/lang/Throwable" "suppressedExceptions" "Ljava/util/List;") ∈ lw_all := lw_g (lw_at lw_m10 34 rfl) rfl
theorem q2317 : (Jvm.Cond.lays "PointerAnalyzer$OverException" "java/lang/Throwable" "detailMessage" "Ljava/lang/String;") ∈ lw_all := lw_g (lw_at lw_m10 35 rfl) rfl
theorem q2318 : (Jvm.Cond.lays "PointerAnalyzer$OverException" "java/lang/Throwable" "backtrace" "Ljava/lang/Object;") ∈ lw_all := lw_g (lw_at lw_m10 36 rfl) rfl
theorem q2320 : (Jvm.Cond.instanceMethod ({ cls := "PointerAnalyzer$OverException", name := "<init>", desc := "()V" } : Jvm.MethodName)) ∈ lw_all := lw_g (lw_at lw_m10 38 rfl) rfl
theorem q2321 : (Jvm.Cond.code ({ cls := "PointerAnalyzer$OverException", name := "<init>", desc := "()V" } : Jvm.MethodName) prog_10_method_1_code (1 : Nat) (Option.none : Option Jvm.ClassFile.FieldType)) ∈ lw_all := lw_g (lw_at lw_m10 39 rfl) rfl
theorem q2322 : (Jvm.Cond.methodLink "PointerAnalyzer$OverException" (1 : Nat) ({ cls := "java/lang/Exception", name := "<init>", desc := "(Ljava/lang/String;Ljava/lang/Throwable;ZZ)V" } : Jvm.MethodName)) ∈ lw_all := lw_g (lw_at lw_m10 40 rfl) rfl
theorem q2328 : (Jvm.Cond.lays "PointerAnalyzer$OverException" "java/lang/Throwable" "depth" "I") ∈ lw_all := lw_g (lw_at lw_m10 46 rfl) rfl
theorem q2329 : (Jvm.Cond.superclass "PointerAnalyzer$OverException" "java/lang/Exception") ∈ lw_all := lw_g (lw_at lw_m10 47 rfl) rfl
theorem q3500 : (Jvm.Cond.castable "PointerAnalyzer$OverException" "java/lang/Object") ∈ lw_tbl := lw_at lw_m15 18 rfl
theorem in_X19 : ∀ w ∈ wsX190, w ∈ lw_all := lw_in wsX190 [2314, 2315, 2316, 2317, 2318, 2328] (by decide +kernel) (by decide +kernel)

/-! PointerAnalyzer$Program -/
set_option maxRecDepth 100000
def RX2 : String := "PointerAnalyzer$Program"
def TX2 : u_T := fun k => match k with
  | 0 => ("PointerAnalyzer$Program", "bodies", "Ljava/util/TreeMap;", true)
  | 1 => ("PointerAnalyzer$Program", "statements", "Ljava/util/ArrayList;", true)
  | _ => ("PointerAnalyzer$Program", "sites", "I", false)
def tyX2 : Nat → FieldType := fun k => match k with
  | 0 => .object "java/util/TreeMap"
  | 1 => .object "java/util/ArrayList"
  | _ => .int
abbrev wsX20 : List Cond := u_ws RX2 TX2 3
theorem nmX2 : ∀ a, a < 3 → ∀ b, b < 3 → a ≠ b → (TX2 a).2.1 ≠ (TX2 b).2.1 := by decide +kernel
theorem tyX2_ok : ∀ k, k < 3 → parseFieldDescriptor (TX2 k).2.2.1 = some (tyX2 k) := by decide +kernel
abbrev cX2_init : ByteArray := prog_12_method_1_code
def yX2_init : MethodName := ⟨RX2, "<init>", "()V"⟩
def dkwX2_init_2 : List UInt8 := [183, 0, 20, 182, 0, 31, 87, 132, 1, 1, 167, 255, 229, 177]
abbrev dktX2_init_2 : List UInt8 := dkwX2_init_2 ++ []
def dkwX2_init_1 : List UInt8 := [181, 0, 21, 3, 60, 27, 7, 162, 0, 28, 42, 180, 0, 12, 27, 184, 0, 25, 187, 0, 18, 89]
abbrev dktX2_init_1 : List UInt8 := dkwX2_init_1 ++ dktX2_init_2
def dkwX2_init_0 : List UInt8 := [42, 183, 0, 3, 42, 187, 0, 9, 89, 183, 0, 11, 181, 0, 12, 42, 187, 0, 18, 89, 183, 0, 20]
abbrev dktX2_init_0 : List UInt8 := dkwX2_init_0 ++ dktX2_init_1
theorem dksX2_init_0 : cX2_init.data.toList.drop 0 = dktX2_init_0 := by decide +kernel
theorem dksX2_init_1 : cX2_init.data.toList.drop 23 = dktX2_init_1 := dk_seg dksX2_init_0 23 rfl rfl
theorem dksX2_init_2 : cX2_init.data.toList.drop 45 = dktX2_init_2 := dk_seg dksX2_init_1 22 rfl rfl
theorem dX2_init_0 : decode cX2_init 0 = .ok (.aload_n 0, 1) := dk_42 (dk_at dksX2_init_0 0 rfl rfl)
theorem dX2_init_1 : decode cX2_init 1 = .ok (.invokespecial 3, 3) := dk_183 0 3 (dk_at dksX2_init_0 1 rfl rfl)
theorem dX2_init_4 : decode cX2_init 4 = .ok (.aload_n 0, 1) := dk_42 (dk_at dksX2_init_0 4 rfl rfl)
theorem dX2_init_5 : decode cX2_init 5 = .ok (.new 9, 3) := dk_187 0 9 (dk_at dksX2_init_0 5 rfl rfl)
theorem dX2_init_8 : decode cX2_init 8 = .ok (.dup, 1) := dk_89 (dk_at dksX2_init_0 8 rfl rfl)
theorem dX2_init_9 : decode cX2_init 9 = .ok (.invokespecial 11, 3) := dk_183 0 11 (dk_at dksX2_init_0 9 rfl rfl)
theorem dX2_init_12 : decode cX2_init 12 = .ok (.putfield 12, 3) := dk_181 0 12 (dk_at dksX2_init_0 12 rfl rfl)
theorem dX2_init_15 : decode cX2_init 15 = .ok (.aload_n 0, 1) := dk_42 (dk_at dksX2_init_0 15 rfl rfl)
theorem dX2_init_16 : decode cX2_init 16 = .ok (.new 18, 3) := dk_187 0 18 (dk_at dksX2_init_0 16 rfl rfl)
theorem dX2_init_19 : decode cX2_init 19 = .ok (.dup, 1) := dk_89 (dk_at dksX2_init_0 19 rfl rfl)
theorem dX2_init_20 : decode cX2_init 20 = .ok (.invokespecial 20, 3) := dk_183 0 20 (dk_at dksX2_init_0 20 rfl rfl)
theorem dX2_init_23 : decode cX2_init 23 = .ok (.putfield 21, 3) := dk_181 0 21 (dk_at dksX2_init_1 0 rfl rfl)
theorem dX2_init_26 : decode cX2_init 26 = .ok (.iconst 0, 1) := dk_3 (dk_at dksX2_init_1 3 rfl rfl)
theorem dX2_init_27 : decode cX2_init 27 = .ok (.istore_n 1, 1) := dk_60 (dk_at dksX2_init_1 4 rfl rfl)
theorem dX2_init_28 : decode cX2_init 28 = .ok (.iload_n 1, 1) := dk_27 (dk_at dksX2_init_1 5 rfl rfl)
theorem dX2_init_29 : decode cX2_init 29 = .ok (.iconst 4, 1) := dk_7 (dk_at dksX2_init_1 6 rfl rfl)
theorem dX2_init_30 : decode cX2_init 30 = .ok (.if_icmp .ge 28, 3) := dk_162 0 28 (dk_at dksX2_init_1 7 rfl rfl)
theorem dX2_init_33 : decode cX2_init 33 = .ok (.aload_n 0, 1) := dk_42 (dk_at dksX2_init_1 10 rfl rfl)
theorem dX2_init_34 : decode cX2_init 34 = .ok (.getfield 12, 3) := dk_180 0 12 (dk_at dksX2_init_1 11 rfl rfl)
theorem dX2_init_37 : decode cX2_init 37 = .ok (.iload_n 1, 1) := dk_27 (dk_at dksX2_init_1 14 rfl rfl)
theorem dX2_init_38 : decode cX2_init 38 = .ok (.invokestatic 25, 3) := dk_184 0 25 (dk_at dksX2_init_1 15 rfl rfl)
theorem dX2_init_41 : decode cX2_init 41 = .ok (.new 18, 3) := dk_187 0 18 (dk_at dksX2_init_1 18 rfl rfl)
theorem dX2_init_44 : decode cX2_init 44 = .ok (.dup, 1) := dk_89 (dk_at dksX2_init_1 21 rfl rfl)
theorem dX2_init_45 : decode cX2_init 45 = .ok (.invokespecial 20, 3) := dk_183 0 20 (dk_at dksX2_init_2 0 rfl rfl)
theorem dX2_init_48 : decode cX2_init 48 = .ok (.invokevirtual 31, 3) := dk_182 0 31 (dk_at dksX2_init_2 3 rfl rfl)
theorem dX2_init_51 : decode cX2_init 51 = .ok (.pop, 1) := dk_87 (dk_at dksX2_init_2 6 rfl rfl)
theorem dX2_init_52 : decode cX2_init 52 = .ok (.iinc 1 1, 3) := dk_132 1 1 (dk_at dksX2_init_2 7 rfl rfl)
theorem dX2_init_55 : decode cX2_init 55 = .ok (.goto (-27), 3) := dk_167 255 229 (dk_at dksX2_init_2 10 rfl rfl)
theorem dX2_init_58 : decode cX2_init 58 = .ok (.return_, 1) := dk_177 (dk_at dksX2_init_2 13 rfl rfl)
abbrev cX2_with : ByteArray := prog_12_method_2_code
def yX2_with : MethodName := ⟨RX2, "with", "(ILjava/util/ArrayList;)LPointerAnalyzer$Program;"⟩
def dkwX2_with_6 : List UInt8 := [132, 4, 1, 167, 255, 147, 45, 176]
abbrev dktX2_with_6 : List UInt8 := dkwX2_with_6 ++ []
def dkwX2_with_5 : List UInt8 := [4, 96, 181, 0, 64, 167, 0, 4, 2, 183, 0, 68, 182, 0, 71, 87, 132, 6, 1, 167, 255, 179]
abbrev dktX2_with_5 : List UInt8 := dkwX2_with_5 ++ dktX2_with_6
def dkwX2_with_4 : List UInt8 := [182, 0, 44, 21, 4, 25, 7, 25, 7, 180, 0, 55, 178, 0, 59, 166, 0, 17, 45, 89, 180, 0, 64, 90]
abbrev dktX2_with_4 : List UInt8 := dkwX2_with_4 ++ dktX2_with_5
def dkwX2_with_3 : List UInt8 := [25, 5, 21, 6, 182, 0, 48, 192, 0, 51, 58, 7, 45, 180, 0, 21, 187, 0, 53, 89, 45, 180, 0, 21]
abbrev dktX2_with_3 : List UInt8 := dkwX2_with_3 ++ dktX2_with_4
def dkwX2_with_2 : List UInt8 := [184, 0, 25, 182, 0, 40, 192, 0, 18, 58, 5, 3, 54, 6, 21, 6, 25, 5, 182, 0, 44, 162, 0, 73]
abbrev dktX2_with_2 : List UInt8 := dkwX2_with_2 ++ dktX2_with_3
def dkwX2_with_1 : List UInt8 := [184, 0, 25, 44, 182, 0, 31, 87, 3, 54, 4, 21, 4, 7, 162, 0, 109, 45, 180, 0, 12, 21, 4]
abbrev dktX2_with_1 : List UInt8 := dkwX2_with_1 ++ dktX2_with_2
def dkwX2_with_0 : List UInt8 := [187, 0, 13, 89, 183, 0, 35, 78, 45, 180, 0, 12, 42, 180, 0, 12, 182, 0, 36, 45, 180, 0, 12, 27]
abbrev dktX2_with_0 : List UInt8 := dkwX2_with_0 ++ dktX2_with_1
theorem dksX2_with_0 : cX2_with.data.toList.drop 0 = dktX2_with_0 := by decide +kernel
theorem dksX2_with_1 : cX2_with.data.toList.drop 24 = dktX2_with_1 := dk_seg dksX2_with_0 24 rfl rfl
theorem dksX2_with_2 : cX2_with.data.toList.drop 47 = dktX2_with_2 := dk_seg dksX2_with_1 23 rfl rfl
theorem dksX2_with_3 : cX2_with.data.toList.drop 71 = dktX2_with_3 := dk_seg dksX2_with_2 24 rfl rfl
theorem dksX2_with_4 : cX2_with.data.toList.drop 95 = dktX2_with_4 := dk_seg dksX2_with_3 24 rfl rfl
theorem dksX2_with_5 : cX2_with.data.toList.drop 119 = dktX2_with_5 := dk_seg dksX2_with_4 24 rfl rfl
theorem dksX2_with_6 : cX2_with.data.toList.drop 141 = dktX2_with_6 := dk_seg dksX2_with_5 22 rfl rfl
theorem dX2_with_0 : decode cX2_with 0 = .ok (.new 13, 3) := dk_187 0 13 (dk_at dksX2_with_0 0 rfl rfl)
theorem dX2_with_3 : decode cX2_with 3 = .ok (.dup, 1) := dk_89 (dk_at dksX2_with_0 3 rfl rfl)
theorem dX2_with_4 : decode cX2_with 4 = .ok (.invokespecial 35, 3) := dk_183 0 35 (dk_at dksX2_with_0 4 rfl rfl)
theorem dX2_with_7 : decode cX2_with 7 = .ok (.astore_n 3, 1) := dk_78 (dk_at dksX2_with_0 7 rfl rfl)
theorem dX2_with_8 : decode cX2_with 8 = .ok (.aload_n 3, 1) := dk_45 (dk_at dksX2_with_0 8 rfl rfl)
theorem dX2_with_9 : decode cX2_with 9 = .ok (.getfield 12, 3) := dk_180 0 12 (dk_at dksX2_with_0 9 rfl rfl)
theorem dX2_with_12 : decode cX2_with 12 = .ok (.aload_n 0, 1) := dk_42 (dk_at dksX2_with_0 12 rfl rfl)
theorem dX2_with_13 : decode cX2_with 13 = .ok (.getfield 12, 3) := dk_180 0 12 (dk_at dksX2_with_0 13 rfl rfl)
theorem dX2_with_16 : decode cX2_with 16 = .ok (.invokevirtual 36, 3) := dk_182 0 36 (dk_at dksX2_with_0 16 rfl rfl)
theorem dX2_with_19 : decode cX2_with 19 = .ok (.aload_n 3, 1) := dk_45 (dk_at dksX2_with_0 19 rfl rfl)
theorem dX2_with_20 : decode cX2_with 20 = .ok (.getfield 12, 3) := dk_180 0 12 (dk_at dksX2_with_0 20 rfl rfl)
theorem dX2_with_23 : decode cX2_with 23 = .ok (.iload_n 1, 1) := dk_27 (dk_at dksX2_with_0 23 rfl rfl)
theorem dX2_with_24 : decode cX2_with 24 = .ok (.invokestatic 25, 3) := dk_184 0 25 (dk_at dksX2_with_1 0 rfl rfl)
theorem dX2_with_27 : decode cX2_with 27 = .ok (.aload_n 2, 1) := dk_44 (dk_at dksX2_with_1 3 rfl rfl)
theorem dX2_with_28 : decode cX2_with 28 = .ok (.invokevirtual 31, 3) := dk_182 0 31 (dk_at dksX2_with_1 4 rfl rfl)
theorem dX2_with_31 : decode cX2_with 31 = .ok (.pop, 1) := dk_87 (dk_at dksX2_with_1 7 rfl rfl)
theorem dX2_with_32 : decode cX2_with 32 = .ok (.iconst 0, 1) := dk_3 (dk_at dksX2_with_1 8 rfl rfl)
theorem dX2_with_33 : decode cX2_with 33 = .ok (.istore 4, 2) := dk_54 4 (dk_at dksX2_with_1 9 rfl rfl)
theorem dX2_with_35 : decode cX2_with 35 = .ok (.iload 4, 2) := dk_21 4 (dk_at dksX2_with_1 11 rfl rfl)
theorem dX2_with_37 : decode cX2_with 37 = .ok (.iconst 4, 1) := dk_7 (dk_at dksX2_with_1 13 rfl rfl)
theorem dX2_with_38 : decode cX2_with 38 = .ok (.if_icmp .ge 109, 3) := dk_162 0 109 (dk_at dksX2_with_1 14 rfl rfl)
theorem dX2_with_41 : decode cX2_with 41 = .ok (.aload_n 3, 1) := dk_45 (dk_at dksX2_with_1 17 rfl rfl)
theorem dX2_with_42 : decode cX2_with 42 = .ok (.getfield 12, 3) := dk_180 0 12 (dk_at dksX2_with_1 18 rfl rfl)
theorem dX2_with_45 : decode cX2_with 45 = .ok (.iload 4, 2) := dk_21 4 (dk_at dksX2_with_1 21 rfl rfl)
theorem dX2_with_47 : decode cX2_with 47 = .ok (.invokestatic 25, 3) := dk_184 0 25 (dk_at dksX2_with_2 0 rfl rfl)
theorem dX2_with_50 : decode cX2_with 50 = .ok (.invokevirtual 40, 3) := dk_182 0 40 (dk_at dksX2_with_2 3 rfl rfl)
theorem dX2_with_53 : decode cX2_with 53 = .ok (.checkcast 18, 3) := dk_192 0 18 (dk_at dksX2_with_2 6 rfl rfl)
theorem dX2_with_56 : decode cX2_with 56 = .ok (.astore 5, 2) := dk_58 5 (dk_at dksX2_with_2 9 rfl rfl)
theorem dX2_with_58 : decode cX2_with 58 = .ok (.iconst 0, 1) := dk_3 (dk_at dksX2_with_2 11 rfl rfl)
theorem dX2_with_59 : decode cX2_with 59 = .ok (.istore 6, 2) := dk_54 6 (dk_at dksX2_with_2 12 rfl rfl)
theorem dX2_with_61 : decode cX2_with 61 = .ok (.iload 6, 2) := dk_21 6 (dk_at dksX2_with_2 14 rfl rfl)
theorem dX2_with_63 : decode cX2_with 63 = .ok (.aload 5, 2) := dk_25 5 (dk_at dksX2_with_2 16 rfl rfl)
theorem dX2_with_65 : decode cX2_with 65 = .ok (.invokevirtual 44, 3) := dk_182 0 44 (dk_at dksX2_with_2 18 rfl rfl)
theorem dX2_with_68 : decode cX2_with 68 = .ok (.if_icmp .ge 73, 3) := dk_162 0 73 (dk_at dksX2_with_2 21 rfl rfl)
theorem dX2_with_71 : decode cX2_with 71 = .ok (.aload 5, 2) := dk_25 5 (dk_at dksX2_with_3 0 rfl rfl)
theorem dX2_with_73 : decode cX2_with 73 = .ok (.iload 6, 2) := dk_21 6 (dk_at dksX2_with_3 2 rfl rfl)
theorem dX2_with_75 : decode cX2_with 75 = .ok (.invokevirtual 48, 3) := dk_182 0 48 (dk_at dksX2_with_3 4 rfl rfl)
theorem dX2_with_78 : decode cX2_with 78 = .ok (.checkcast 51, 3) := dk_192 0 51 (dk_at dksX2_with_3 7 rfl rfl)
theorem dX2_with_81 : decode cX2_with 81 = .ok (.astore 7, 2) := dk_58 7 (dk_at dksX2_with_3 10 rfl rfl)
theorem dX2_with_83 : decode cX2_with 83 = .ok (.aload_n 3, 1) := dk_45 (dk_at dksX2_with_3 12 rfl rfl)
theorem dX2_with_84 : decode cX2_with 84 = .ok (.getfield 21, 3) := dk_180 0 21 (dk_at dksX2_with_3 13 rfl rfl)
theorem dX2_with_87 : decode cX2_with 87 = .ok (.new 53, 3) := dk_187 0 53 (dk_at dksX2_with_3 16 rfl rfl)
theorem dX2_with_90 : decode cX2_with 90 = .ok (.dup, 1) := dk_89 (dk_at dksX2_with_3 19 rfl rfl)
theorem dX2_with_91 : decode cX2_with 91 = .ok (.aload_n 3, 1) := dk_45 (dk_at dksX2_with_3 20 rfl rfl)
theorem dX2_with_92 : decode cX2_with 92 = .ok (.getfield 21, 3) := dk_180 0 21 (dk_at dksX2_with_3 21 rfl rfl)
theorem dX2_with_95 : decode cX2_with 95 = .ok (.invokevirtual 44, 3) := dk_182 0 44 (dk_at dksX2_with_4 0 rfl rfl)
theorem dX2_with_98 : decode cX2_with 98 = .ok (.iload 4, 2) := dk_21 4 (dk_at dksX2_with_4 3 rfl rfl)
theorem dX2_with_100 : decode cX2_with 100 = .ok (.aload 7, 2) := dk_25 7 (dk_at dksX2_with_4 5 rfl rfl)
theorem dX2_with_102 : decode cX2_with 102 = .ok (.aload 7, 2) := dk_25 7 (dk_at dksX2_with_4 7 rfl rfl)
theorem dX2_with_104 : decode cX2_with 104 = .ok (.getfield 55, 3) := dk_180 0 55 (dk_at dksX2_with_4 9 rfl rfl)
theorem dX2_with_107 : decode cX2_with 107 = .ok (.getstatic 59, 3) := dk_178 0 59 (dk_at dksX2_with_4 12 rfl rfl)
theorem dX2_with_110 : decode cX2_with 110 = .ok (.if_acmp .ne 17, 3) := dk_166 0 17 (dk_at dksX2_with_4 15 rfl rfl)
theorem dX2_with_113 : decode cX2_with 113 = .ok (.aload_n 3, 1) := dk_45 (dk_at dksX2_with_4 18 rfl rfl)
theorem dX2_with_114 : decode cX2_with 114 = .ok (.dup, 1) := dk_89 (dk_at dksX2_with_4 19 rfl rfl)
theorem dX2_with_115 : decode cX2_with 115 = .ok (.getfield 64, 3) := dk_180 0 64 (dk_at dksX2_with_4 20 rfl rfl)
theorem dX2_with_118 : decode cX2_with 118 = .ok (.dup_x1, 1) := dk_90 (dk_at dksX2_with_4 23 rfl rfl)
theorem dX2_with_119 : decode cX2_with 119 = .ok (.iconst 1, 1) := dk_4 (dk_at dksX2_with_5 0 rfl rfl)
theorem dX2_with_120 : decode cX2_with 120 = .ok (.iadd, 1) := dk_96 (dk_at dksX2_with_5 1 rfl rfl)
theorem dX2_with_121 : decode cX2_with 121 = .ok (.putfield 64, 3) := dk_181 0 64 (dk_at dksX2_with_5 2 rfl rfl)
theorem dX2_with_124 : decode cX2_with 124 = .ok (.goto 4, 3) := dk_167 0 4 (dk_at dksX2_with_5 5 rfl rfl)
theorem dX2_with_127 : decode cX2_with 127 = .ok (.iconst (-1), 1) := dk_2 (dk_at dksX2_with_5 8 rfl rfl)
theorem dX2_with_128 : decode cX2_with 128 = .ok (.invokespecial 68, 3) := dk_183 0 68 (dk_at dksX2_with_5 9 rfl rfl)
theorem dX2_with_131 : decode cX2_with 131 = .ok (.invokevirtual 71, 3) := dk_182 0 71 (dk_at dksX2_with_5 12 rfl rfl)
theorem dX2_with_134 : decode cX2_with 134 = .ok (.pop, 1) := dk_87 (dk_at dksX2_with_5 15 rfl rfl)
theorem dX2_with_135 : decode cX2_with 135 = .ok (.iinc 6 1, 3) := dk_132 6 1 (dk_at dksX2_with_5 16 rfl rfl)
theorem dX2_with_138 : decode cX2_with 138 = .ok (.goto (-77), 3) := dk_167 255 179 (dk_at dksX2_with_5 19 rfl rfl)
theorem dX2_with_141 : decode cX2_with 141 = .ok (.iinc 4 1, 3) := dk_132 4 1 (dk_at dksX2_with_6 0 rfl rfl)
theorem dX2_with_144 : decode cX2_with 144 = .ok (.goto (-109), 3) := dk_167 255 147 (dk_at dksX2_with_6 3 rfl rfl)
theorem dX2_with_147 : decode cX2_with 147 = .ok (.aload_n 3, 1) := dk_45 (dk_at dksX2_with_6 6 rfl rfl)
theorem dX2_with_148 : decode cX2_with 148 = .ok (.areturn, 1) := dk_176 (dk_at dksX2_with_6 7 rfl rfl)
abbrev cX2_callees : ByteArray := prog_12_method_4_code
def yX2_callees : MethodName := ⟨RX2, "callees", "(I)[Z"⟩
def dkwX2_callees_6 : List UInt8 := [167, 255, 128, 44, 176]
abbrev dktX2_callees_6 : List UInt8 := dkwX2_callees_6 ++ []
def dkwX2_callees_5 : List UInt8 := [180, 0, 89, 180, 0, 93, 167, 0, 4, 3, 92, 51, 21, 6, 128, 84, 132, 4, 1, 167, 255, 140]
abbrev dktX2_callees_5 : List UInt8 := dkwX2_callees_5 ++ dktX2_callees_6
def dkwX2_callees_4 : List UInt8 := [180, 0, 93, 51, 154, 0, 7, 4, 167, 0, 4, 3, 128, 62, 44, 21, 6, 153, 0, 14, 25, 5]
abbrev dktX2_callees_4 : List UInt8 := dkwX2_callees_4 ++ dktX2_callees_5
def dkwX2_callees_3 : List UInt8 := [153, 0, 7, 4, 167, 0, 4, 3, 54, 6, 29, 21, 6, 153, 0, 20, 44, 25, 5, 180, 0, 89]
abbrev dktX2_callees_3 : List UInt8 := dkwX2_callees_3 ++ dktX2_callees_4
def dkwX2_callees_2 : List UInt8 := [182, 0, 82, 153, 0, 26, 25, 5, 180, 0, 86, 27, 159, 0, 13, 44, 25, 5, 180, 0, 86, 51]
abbrev dktX2_callees_2 : List UInt8 := dkwX2_callees_2 ++ dktX2_callees_3
def dkwX2_callees_1 : List UInt8 := [162, 0, 110, 42, 180, 0, 21, 21, 4, 182, 0, 48, 192, 0, 53, 58, 5, 25, 5, 178, 0, 79]
abbrev dktX2_callees_1 : List UInt8 := dkwX2_callees_1 ++ dktX2_callees_2
def dkwX2_callees_0 : List UInt8 := [7, 188, 4, 77, 4, 62, 29, 153, 0, 130, 3, 62, 3, 54, 4, 21, 4, 42, 180, 0, 21, 182, 0, 44]
abbrev dktX2_callees_0 : List UInt8 := dkwX2_callees_0 ++ dktX2_callees_1
theorem dksX2_callees_0 : cX2_callees.data.toList.drop 0 = dktX2_callees_0 := by decide +kernel
theorem dksX2_callees_1 : cX2_callees.data.toList.drop 24 = dktX2_callees_1 := dk_seg dksX2_callees_0 24 rfl rfl
theorem dksX2_callees_2 : cX2_callees.data.toList.drop 46 = dktX2_callees_2 := dk_seg dksX2_callees_1 22 rfl rfl
theorem dksX2_callees_3 : cX2_callees.data.toList.drop 68 = dktX2_callees_3 := dk_seg dksX2_callees_2 22 rfl rfl
theorem dksX2_callees_4 : cX2_callees.data.toList.drop 90 = dktX2_callees_4 := dk_seg dksX2_callees_3 22 rfl rfl
theorem dksX2_callees_5 : cX2_callees.data.toList.drop 112 = dktX2_callees_5 := dk_seg dksX2_callees_4 22 rfl rfl
theorem dksX2_callees_6 : cX2_callees.data.toList.drop 134 = dktX2_callees_6 := dk_seg dksX2_callees_5 22 rfl rfl
theorem dX2_callees_0 : decode cX2_callees 0 = .ok (.iconst 4, 1) := dk_7 (dk_at dksX2_callees_0 0 rfl rfl)
theorem dX2_callees_1 : decode cX2_callees 1 = .ok (.newarray .boolean, 2) := dk_188_4 (dk_at dksX2_callees_0 1 rfl rfl)
theorem dX2_callees_3 : decode cX2_callees 3 = .ok (.astore_n 2, 1) := dk_77 (dk_at dksX2_callees_0 3 rfl rfl)
theorem dX2_callees_4 : decode cX2_callees 4 = .ok (.iconst 1, 1) := dk_4 (dk_at dksX2_callees_0 4 rfl rfl)
theorem dX2_callees_5 : decode cX2_callees 5 = .ok (.istore_n 3, 1) := dk_62 (dk_at dksX2_callees_0 5 rfl rfl)
theorem dX2_callees_6 : decode cX2_callees 6 = .ok (.iload_n 3, 1) := dk_29 (dk_at dksX2_callees_0 6 rfl rfl)
theorem dX2_callees_7 : decode cX2_callees 7 = .ok (.ifCond .eq 130, 3) := dk_153 0 130 (dk_at dksX2_callees_0 7 rfl rfl)
theorem dX2_callees_10 : decode cX2_callees 10 = .ok (.iconst 0, 1) := dk_3 (dk_at dksX2_callees_0 10 rfl rfl)
theorem dX2_callees_11 : decode cX2_callees 11 = .ok (.istore_n 3, 1) := dk_62 (dk_at dksX2_callees_0 11 rfl rfl)
theorem dX2_callees_12 : decode cX2_callees 12 = .ok (.iconst 0, 1) := dk_3 (dk_at dksX2_callees_0 12 rfl rfl)
theorem dX2_callees_13 : decode cX2_callees 13 = .ok (.istore 4, 2) := dk_54 4 (dk_at dksX2_callees_0 13 rfl rfl)
theorem dX2_callees_15 : decode cX2_callees 15 = .ok (.iload 4, 2) := dk_21 4 (dk_at dksX2_callees_0 15 rfl rfl)
theorem dX2_callees_17 : decode cX2_callees 17 = .ok (.aload_n 0, 1) := dk_42 (dk_at dksX2_callees_0 17 rfl rfl)
theorem dX2_callees_18 : decode cX2_callees 18 = .ok (.getfield 21, 3) := dk_180 0 21 (dk_at dksX2_callees_0 18 rfl rfl)
theorem dX2_callees_21 : decode cX2_callees 21 = .ok (.invokevirtual 44, 3) := dk_182 0 44 (dk_at dksX2_callees_0 21 rfl rfl)
theorem dX2_callees_24 : decode cX2_callees 24 = .ok (.if_icmp .ge 110, 3) := dk_162 0 110 (dk_at dksX2_callees_1 0 rfl rfl)
theorem dX2_callees_27 : decode cX2_callees 27 = .ok (.aload_n 0, 1) := dk_42 (dk_at dksX2_callees_1 3 rfl rfl)
theorem dX2_callees_28 : decode cX2_callees 28 = .ok (.getfield 21, 3) := dk_180 0 21 (dk_at dksX2_callees_1 4 rfl rfl)
theorem dX2_callees_31 : decode cX2_callees 31 = .ok (.iload 4, 2) := dk_21 4 (dk_at dksX2_callees_1 7 rfl rfl)
theorem dX2_callees_33 : decode cX2_callees 33 = .ok (.invokevirtual 48, 3) := dk_182 0 48 (dk_at dksX2_callees_1 9 rfl rfl)
theorem dX2_callees_36 : decode cX2_callees 36 = .ok (.checkcast 53, 3) := dk_192 0 53 (dk_at dksX2_callees_1 12 rfl rfl)
theorem dX2_callees_39 : decode cX2_callees 39 = .ok (.astore 5, 2) := dk_58 5 (dk_at dksX2_callees_1 15 rfl rfl)
theorem dX2_callees_41 : decode cX2_callees 41 = .ok (.aload 5, 2) := dk_25 5 (dk_at dksX2_callees_1 17 rfl rfl)
theorem dX2_callees_43 : decode cX2_callees 43 = .ok (.getstatic 79, 3) := dk_178 0 79 (dk_at dksX2_callees_1 19 rfl rfl)
theorem dX2_callees_46 : decode cX2_callees 46 = .ok (.invokevirtual 82, 3) := dk_182 0 82 (dk_at dksX2_callees_2 0 rfl rfl)
theorem dX2_callees_49 : decode cX2_callees 49 = .ok (.ifCond .eq 26, 3) := dk_153 0 26 (dk_at dksX2_callees_2 3 rfl rfl)
theorem dX2_callees_52 : decode cX2_callees 52 = .ok (.aload 5, 2) := dk_25 5 (dk_at dksX2_callees_2 6 rfl rfl)
theorem dX2_callees_54 : decode cX2_callees 54 = .ok (.getfield 86, 3) := dk_180 0 86 (dk_at dksX2_callees_2 8 rfl rfl)
theorem dX2_callees_57 : decode cX2_callees 57 = .ok (.iload_n 1, 1) := dk_27 (dk_at dksX2_callees_2 11 rfl rfl)
theorem dX2_callees_58 : decode cX2_callees 58 = .ok (.if_icmp .eq 13, 3) := dk_159 0 13 (dk_at dksX2_callees_2 12 rfl rfl)
theorem dX2_callees_61 : decode cX2_callees 61 = .ok (.aload_n 2, 1) := dk_44 (dk_at dksX2_callees_2 15 rfl rfl)
theorem dX2_callees_62 : decode cX2_callees 62 = .ok (.aload 5, 2) := dk_25 5 (dk_at dksX2_callees_2 16 rfl rfl)
theorem dX2_callees_64 : decode cX2_callees 64 = .ok (.getfield 86, 3) := dk_180 0 86 (dk_at dksX2_callees_2 18 rfl rfl)
theorem dX2_callees_67 : decode cX2_callees 67 = .ok (.baload, 1) := dk_51 (dk_at dksX2_callees_2 21 rfl rfl)
theorem dX2_callees_68 : decode cX2_callees 68 = .ok (.ifCond .eq 7, 3) := dk_153 0 7 (dk_at dksX2_callees_3 0 rfl rfl)
theorem dX2_callees_71 : decode cX2_callees 71 = .ok (.iconst 1, 1) := dk_4 (dk_at dksX2_callees_3 3 rfl rfl)
theorem dX2_callees_72 : decode cX2_callees 72 = .ok (.goto 4, 3) := dk_167 0 4 (dk_at dksX2_callees_3 4 rfl rfl)
theorem dX2_callees_75 : decode cX2_callees 75 = .ok (.iconst 0, 1) := dk_3 (dk_at dksX2_callees_3 7 rfl rfl)
theorem dX2_callees_76 : decode cX2_callees 76 = .ok (.istore 6, 2) := dk_54 6 (dk_at dksX2_callees_3 8 rfl rfl)
theorem dX2_callees_78 : decode cX2_callees 78 = .ok (.iload_n 3, 1) := dk_29 (dk_at dksX2_callees_3 10 rfl rfl)
theorem dX2_callees_79 : decode cX2_callees 79 = .ok (.iload 6, 2) := dk_21 6 (dk_at dksX2_callees_3 11 rfl rfl)
theorem dX2_callees_81 : decode cX2_callees 81 = .ok (.ifCond .eq 20, 3) := dk_153 0 20 (dk_at dksX2_callees_3 13 rfl rfl)
theorem dX2_callees_84 : decode cX2_callees 84 = .ok (.aload_n 2, 1) := dk_44 (dk_at dksX2_callees_3 16 rfl rfl)
theorem dX2_callees_85 : decode cX2_callees 85 = .ok (.aload 5, 2) := dk_25 5 (dk_at dksX2_callees_3 17 rfl rfl)
theorem dX2_callees_87 : decode cX2_callees 87 = .ok (.getfield 89, 3) := dk_180 0 89 (dk_at dksX2_callees_3 19 rfl rfl)
theorem dX2_callees_90 : decode cX2_callees 90 = .ok (.getfield 93, 3) := dk_180 0 93 (dk_at dksX2_callees_4 0 rfl rfl)
theorem dX2_callees_93 : decode cX2_callees 93 = .ok (.baload, 1) := dk_51 (dk_at dksX2_callees_4 3 rfl rfl)
theorem dX2_callees_94 : decode cX2_callees 94 = .ok (.ifCond .ne 7, 3) := dk_154 0 7 (dk_at dksX2_callees_4 4 rfl rfl)
theorem dX2_callees_97 : decode cX2_callees 97 = .ok (.iconst 1, 1) := dk_4 (dk_at dksX2_callees_4 7 rfl rfl)
theorem dX2_callees_98 : decode cX2_callees 98 = .ok (.goto 4, 3) := dk_167 0 4 (dk_at dksX2_callees_4 8 rfl rfl)
theorem dX2_callees_101 : decode cX2_callees 101 = .ok (.iconst 0, 1) := dk_3 (dk_at dksX2_callees_4 11 rfl rfl)
theorem dX2_callees_102 : decode cX2_callees 102 = .ok (.ior, 1) := dk_128 (dk_at dksX2_callees_4 12 rfl rfl)
theorem dX2_callees_103 : decode cX2_callees 103 = .ok (.istore_n 3, 1) := dk_62 (dk_at dksX2_callees_4 13 rfl rfl)
theorem dX2_callees_104 : decode cX2_callees 104 = .ok (.aload_n 2, 1) := dk_44 (dk_at dksX2_callees_4 14 rfl rfl)
theorem dX2_callees_105 : decode cX2_callees 105 = .ok (.iload 6, 2) := dk_21 6 (dk_at dksX2_callees_4 15 rfl rfl)
theorem dX2_callees_107 : decode cX2_callees 107 = .ok (.ifCond .eq 14, 3) := dk_153 0 14 (dk_at dksX2_callees_4 17 rfl rfl)
theorem dX2_callees_110 : decode cX2_callees 110 = .ok (.aload 5, 2) := dk_25 5 (dk_at dksX2_callees_4 20 rfl rfl)
theorem dX2_callees_112 : decode cX2_callees 112 = .ok (.getfield 89, 3) := dk_180 0 89 (dk_at dksX2_callees_5 0 rfl rfl)
theorem dX2_callees_115 : decode cX2_callees 115 = .ok (.getfield 93, 3) := dk_180 0 93 (dk_at dksX2_callees_5 3 rfl rfl)
theorem dX2_callees_118 : decode cX2_callees 118 = .ok (.goto 4, 3) := dk_167 0 4 (dk_at dksX2_callees_5 6 rfl rfl)
theorem dX2_callees_121 : decode cX2_callees 121 = .ok (.iconst 0, 1) := dk_3 (dk_at dksX2_callees_5 9 rfl rfl)
theorem dX2_callees_122 : decode cX2_callees 122 = .ok (.dup2, 1) := dk_92 (dk_at dksX2_callees_5 10 rfl rfl)
theorem dX2_callees_123 : decode cX2_callees 123 = .ok (.baload, 1) := dk_51 (dk_at dksX2_callees_5 11 rfl rfl)
theorem dX2_callees_124 : decode cX2_callees 124 = .ok (.iload 6, 2) := dk_21 6 (dk_at dksX2_callees_5 12 rfl rfl)
theorem dX2_callees_126 : decode cX2_callees 126 = .ok (.ior, 1) := dk_128 (dk_at dksX2_callees_5 14 rfl rfl)
theorem dX2_callees_127 : decode cX2_callees 127 = .ok (.bastore, 1) := dk_84 (dk_at dksX2_callees_5 15 rfl rfl)
theorem dX2_callees_128 : decode cX2_callees 128 = .ok (.iinc 4 1, 3) := dk_132 4 1 (dk_at dksX2_callees_5 16 rfl rfl)
theorem dX2_callees_131 : decode cX2_callees 131 = .ok (.goto (-116), 3) := dk_167 255 140 (dk_at dksX2_callees_5 19 rfl rfl)
theorem dX2_callees_134 : decode cX2_callees 134 = .ok (.goto (-128), 3) := dk_167 255 128 (dk_at dksX2_callees_6 0 rfl rfl)
theorem dX2_callees_137 : decode cX2_callees 137 = .ok (.aload_n 2, 1) := dk_44 (dk_at dksX2_callees_6 3 rfl rfl)
theorem dX2_callees_138 : decode cX2_callees 138 = .ok (.areturn, 1) := dk_176 (dk_at dksX2_callees_6 4 rfl rfl)
abbrev cX2_countAll : ByteArray := prog_12_method_3_code
def yX2_countAll : MethodName := ⟨RX2, "countAll", "(LPointerAnalyzer$Kind;)I"⟩
def dkwX2_countAll_1 : List UInt8 := [43, 184, 0, 75, 96, 61, 132, 3, 1, 167, 255, 227, 28, 172]
abbrev dktX2_countAll_1 : List UInt8 := dkwX2_countAll_1 ++ []
def dkwX2_countAll_0 : List UInt8 := [3, 61, 3, 62, 29, 7, 162, 0, 30, 28, 42, 180, 0, 12, 29, 184, 0, 25, 182, 0, 40, 192, 0, 18]
abbrev dktX2_countAll_0 : List UInt8 := dkwX2_countAll_0 ++ dktX2_countAll_1
theorem dksX2_countAll_0 : cX2_countAll.data.toList.drop 0 = dktX2_countAll_0 := by decide +kernel
theorem dksX2_countAll_1 : cX2_countAll.data.toList.drop 24 = dktX2_countAll_1 := dk_seg dksX2_countAll_0 24 rfl rfl
theorem dX2_countAll_0 : decode cX2_countAll 0 = .ok (.iconst 0, 1) := dk_3 (dk_at dksX2_countAll_0 0 rfl rfl)
theorem dX2_countAll_1 : decode cX2_countAll 1 = .ok (.istore_n 2, 1) := dk_61 (dk_at dksX2_countAll_0 1 rfl rfl)
theorem dX2_countAll_2 : decode cX2_countAll 2 = .ok (.iconst 0, 1) := dk_3 (dk_at dksX2_countAll_0 2 rfl rfl)
theorem dX2_countAll_3 : decode cX2_countAll 3 = .ok (.istore_n 3, 1) := dk_62 (dk_at dksX2_countAll_0 3 rfl rfl)
theorem dX2_countAll_4 : decode cX2_countAll 4 = .ok (.iload_n 3, 1) := dk_29 (dk_at dksX2_countAll_0 4 rfl rfl)
theorem dX2_countAll_5 : decode cX2_countAll 5 = .ok (.iconst 4, 1) := dk_7 (dk_at dksX2_countAll_0 5 rfl rfl)
theorem dX2_countAll_6 : decode cX2_countAll 6 = .ok (.if_icmp .ge 30, 3) := dk_162 0 30 (dk_at dksX2_countAll_0 6 rfl rfl)
theorem dX2_countAll_9 : decode cX2_countAll 9 = .ok (.iload_n 2, 1) := dk_28 (dk_at dksX2_countAll_0 9 rfl rfl)
theorem dX2_countAll_10 : decode cX2_countAll 10 = .ok (.aload_n 0, 1) := dk_42 (dk_at dksX2_countAll_0 10 rfl rfl)
theorem dX2_countAll_11 : decode cX2_countAll 11 = .ok (.getfield 12, 3) := dk_180 0 12 (dk_at dksX2_countAll_0 11 rfl rfl)
theorem dX2_countAll_14 : decode cX2_countAll 14 = .ok (.iload_n 3, 1) := dk_29 (dk_at dksX2_countAll_0 14 rfl rfl)
theorem dX2_countAll_15 : decode cX2_countAll 15 = .ok (.invokestatic 25, 3) := dk_184 0 25 (dk_at dksX2_countAll_0 15 rfl rfl)
theorem dX2_countAll_18 : decode cX2_countAll 18 = .ok (.invokevirtual 40, 3) := dk_182 0 40 (dk_at dksX2_countAll_0 18 rfl rfl)
theorem dX2_countAll_21 : decode cX2_countAll 21 = .ok (.checkcast 18, 3) := dk_192 0 18 (dk_at dksX2_countAll_0 21 rfl rfl)
theorem dX2_countAll_24 : decode cX2_countAll 24 = .ok (.aload_n 1, 1) := dk_43 (dk_at dksX2_countAll_1 0 rfl rfl)
theorem dX2_countAll_25 : decode cX2_countAll 25 = .ok (.invokestatic 75, 3) := dk_184 0 75 (dk_at dksX2_countAll_1 1 rfl rfl)
theorem dX2_countAll_28 : decode cX2_countAll 28 = .ok (.iadd, 1) := dk_96 (dk_at dksX2_countAll_1 4 rfl rfl)
theorem dX2_countAll_29 : decode cX2_countAll 29 = .ok (.istore_n 2, 1) := dk_61 (dk_at dksX2_countAll_1 5 rfl rfl)
theorem dX2_countAll_30 : decode cX2_countAll 30 = .ok (.iinc 3 1, 3) := dk_132 3 1 (dk_at dksX2_countAll_1 6 rfl rfl)
theorem dX2_countAll_33 : decode cX2_countAll 33 = .ok (.goto (-29), 3) := dk_167 255 227 (dk_at dksX2_countAll_1 9 rfl rfl)
theorem dX2_countAll_36 : decode cX2_countAll 36 = .ok (.iload_n 2, 1) := dk_28 (dk_at dksX2_countAll_1 12 rfl rfl)
theorem dX2_countAll_37 : decode cX2_countAll 37 = .ok (.ireturn, 1) := dk_172 (dk_at dksX2_countAll_1 13 rfl rfl)
theorem q124 : (Jvm.Cond.initialized "PointerAnalyzer$Program") ∈ lw_all := lw_g (lw_at lw_m1 2 rfl) rfl
theorem q199 : (Jvm.Cond.instantiable "PointerAnalyzer$Program" (3 : Nat)) ∈ lw_all := lw_g (lw_at lw_m1 77 rfl) rfl
theorem q201 : (Jvm.Cond.instanceMethod ({ cls := "PointerAnalyzer$Program", name := "<init>", desc := "()V" } : Jvm.MethodName)) ∈ lw_all := lw_g (lw_at lw_m1 79 rfl) rfl
theorem q202 : (Jvm.Cond.code ({ cls := "PointerAnalyzer$Program", name := "<init>", desc := "()V" } : Jvm.MethodName) prog_12_method_1_code (2 : Nat) (Option.none : Option Jvm.ClassFile.FieldType)) ∈ lw_all := lw_g (lw_at lw_m1 80 rfl) rfl
theorem q203 : (Jvm.Cond.methodLink "PointerAnalyzer$Program" (3 : Nat) ({ cls := "java/lang/Object", name := "<init>", desc := "()V" } : Jvm.MethodName)) ∈ lw_all := lw_g (lw_at lw_m1 81 rfl) rfl
theorem q204 : (Jvm.Cond.classLink "PointerAnalyzer$Program" (9 : Nat) "java/util/TreeMap") ∈ lw_all := lw_g (lw_at lw_m1 82 rfl) rfl
theorem q206 : (Jvm.Cond.methodLink "PointerAnalyzer$Program" (11 : Nat) ({ cls := "java/util/TreeMap", name := "<init>", desc := "()V" } : Jvm.MethodName)) ∈ lw_all := lw_g (lw_at lw_m1 84 rfl) rfl
theorem q239 : (Jvm.Cond.classLink "PointerAnalyzer$Program" (18 : Nat) "java/util/ArrayList") ∈ lw_all := lw_g (lw_at lw_m1 117 rfl) rfl
theorem q241 : (Jvm.Cond.methodLink "PointerAnalyzer$Program" (20 : Nat) ({ cls := "java/util/ArrayList", name := "<init>", desc := "()V" } : Jvm.MethodName)) ∈ lw_all := lw_g (lw_at lw_m1 119 rfl) rfl
theorem q268 : (Jvm.Cond.methodLink "PointerAnalyzer$Program" (25 : Nat) ({ cls := "java/lang/Integer", name := "valueOf", desc := "(I)Ljava/lang/Integer;" } : Jvm.MethodName)) ∈ lw_all := lw_g (lw_at lw_m1 146 rfl) rfl
theorem q288 : (Jvm.Cond.methodLink "PointerAnalyzer$Program" (31 : Nat) ({ cls := "java/util/TreeMap", name := "put", desc := "(Ljava/lang/Object;Ljava/lang/Object;)Ljava/lang/Object;" } : Jvm.MethodName)) ∈ lw_all := lw_g (lw_at lw_m1 166 rfl) rfl
theorem q349 : (Jvm.Cond.selects "PointerAnalyzer$Program" ({ cls := "java/lang/Object", name := "getClass", desc := "()Ljava/lang/Class;" } : Jvm.MethodName) ({ cls := "java/lang/Object", name := "getClass", desc := "()Ljava/lang/Class;" } : Jvm.MethodName)) ∈ lw_all := lw_g (lw_at lw_m1 227 rfl) rfl
theorem q698 : (Jvm.Cond.fieldLink "PointerAnalyzer$Program" (12 : Nat) "PointerAnalyzer$Program" "bodies" "Ljava/util/TreeMap;") ∈ lw_all := lw_g (lw_at lw_m3 96 rfl) rfl
theorem q699 : (Jvm.Cond.fieldLink "PointerAnalyzer$Program" (21 : Nat) "PointerAnalyzer$Program" "statements" "Ljava/util/ArrayList;") ∈ lw_all := lw_g (lw_at lw_m3 97 rfl) rfl
theorem q707 : (Jvm.Cond.fieldLink "PointerAnalyzer$Program" (64 : Nat) "PointerAnalyzer$Program" "sites" "I") ∈ lw_all := lw_g (lw_at lw_m3 105 rfl) rfl
theorem q710 : (Jvm.Cond.laysFinal "PointerAnalyzer$Program" "PointerAnalyzer$Program" "bodies" "Ljava/util/TreeMap;") ∈ lw_all := lw_g (lw_at lw_m3 108 rfl) rfl
theorem q711 : (Jvm.Cond.soleField "PointerAnalyzer$Program" "bodies") ∈ lw_all := lw_g (lw_at lw_m3 109 rfl) rfl
theorem q712 : (Jvm.Cond.laysFinal "PointerAnalyzer$Program" "PointerAnalyzer$Program" "statements" "Ljava/util/ArrayList;") ∈ lw_all := lw_g (lw_at lw_m3 110 rfl) rfl
theorem q713 : (Jvm.Cond.soleField "PointerAnalyzer$Program" "statements") ∈ lw_all := lw_g (lw_at lw_m3 111 rfl) rfl
theorem q714 : (Jvm.Cond.lays "PointerAnalyzer$Program" "PointerAnalyzer$Program" "sites" "I") ∈ lw_all := lw_g (lw_at lw_m3 112 rfl) rfl
theorem q715 : (Jvm.Cond.soleField "PointerAnalyzer$Program" "sites") ∈ lw_all := lw_g (lw_at lw_m3 113 rfl) rfl
theorem q716 : (Jvm.Cond.superclass "PointerAnalyzer$Program" "java/lang/Object") ∈ lw_all := lw_g (lw_at lw_m3 114 rfl) rfl
theorem q720 : (Jvm.Cond.instanceMethod ({ cls := "PointerAnalyzer$Program", name := "with", desc := "(ILjava/util/ArrayList;)LPointerAnalyzer$Program;" } : Jvm.MethodName)) ∈ lw_all := lw_g (lw_at lw_m3 118 rfl) rfl
theorem q721 : (Jvm.Cond.selects "PointerAnalyzer$Program" ({ cls := "PointerAnalyzer$Program", name := "with", desc := "(ILjava/util/ArrayList;)LPointerAnalyzer$Program;" } : Jvm.MethodName) ({ cls := "PointerAnalyzer$Program", name := "with", desc := "(ILjava/util/ArrayList;)LPointerAnalyzer$Program;" } : Jvm.MethodName)) ∈ lw_all := lw_g (lw_at lw_m3 119 rfl) rfl
theorem q722 : (Jvm.Cond.code ({ cls := "PointerAnalyzer$Program", name := "with", desc := "(ILjava/util/ArrayList;)LPointerAnalyzer$Program;" } : Jvm.MethodName) prog_12_method_2_code (8 : Nat) (Option.some (Jvm.ClassFile.FieldType.object "PointerAnalyzer$Program"))) ∈ lw_all := lw_g (lw_at lw_m3 120 rfl) rfl
theorem q723 : (Jvm.Cond.classLink "PointerAnalyzer$Program" (13 : Nat) "PointerAnalyzer$Program") ∈ lw_all := lw_g (lw_at lw_m3 121 rfl) rfl
theorem q724 : (Jvm.Cond.methodLink "PointerAnalyzer$Program" (35 : Nat) ({ cls := "PointerAnalyzer$Program", name := "<init>", desc := "()V" } : Jvm.MethodName)) ∈ lw_all := lw_g (lw_at lw_m3 122 rfl) rfl
theorem q725 : (Jvm.Cond.methodLink "PointerAnalyzer$Program" (36 : Nat) ({ cls := "java/util/TreeMap", name := "putAll", desc := "(Ljava/util/Map;)V" } : Jvm.MethodName)) ∈ lw_all := lw_g (lw_at lw_m3 123 rfl) rfl
theorem q772 : (Jvm.Cond.selects "PointerAnalyzer$Program" ({ cls := "java/lang/Object", name := "equals", desc := "(Ljava/lang/Object;)Z" } : Jvm.MethodName) ({ cls := "java/lang/Object", name := "equals", desc := "(Ljava/lang/Object;)Z" } : Jvm.MethodName)) ∈ lw_all := lw_g (lw_at lw_m3 170 rfl) rfl
theorem q1132 : (Jvm.Cond.methodLink "PointerAnalyzer$Program" (40 : Nat) ({ cls := "java/util/TreeMap", name := "get", desc := "(Ljava/lang/Object;)Ljava/lang/Object;" } : Jvm.MethodName)) ∈ lw_all := lw_g (lw_at lw_m5 50 rfl) rfl
theorem q1144 : (Jvm.Cond.methodLink "PointerAnalyzer$Program" (44 : Nat) ({ cls := "java/util/ArrayList", name := "size", desc := "()I" } : Jvm.MethodName)) ∈ lw_all := lw_g (lw_at lw_m5 62 rfl) rfl
theorem q1148 : (Jvm.Cond.methodLink "PointerAnalyzer$Program" (48 : Nat) ({ cls := "java/util/ArrayList", name := "get", desc := "(I)Ljava/lang/Object;" } : Jvm.MethodName)) ∈ lw_all := lw_g (lw_at lw_m5 66 rfl) rfl
theorem q1162 : (Jvm.Cond.classLink "PointerAnalyzer$Program" (51 : Nat) "PointerAnalyzer$Line") ∈ lw_all := lw_g (lw_at lw_m5 80 rfl) rfl
theorem q1163 : (Jvm.Cond.classLink "PointerAnalyzer$Program" (53 : Nat) "PointerAnalyzer$Statement") ∈ lw_all := lw_g (lw_at lw_m5 81 rfl) rfl
theorem q1165 : (Jvm.Cond.fieldLink "PointerAnalyzer$Program" (59 : Nat) "PointerAnalyzer$Kind" "ALLOCATION" "LPointerAnalyzer$Kind;") ∈ lw_all := lw_g (lw_at lw_m5 83 rfl) rfl
theorem q1167 : (Jvm.Cond.methodLink "PointerAnalyzer$Program" (68 : Nat) ({ cls := "PointerAnalyzer$Statement", name := "<init>", desc := "(IILPointerAnalyzer$Line;I)V" } : Jvm.MethodName)) ∈ lw_all := lw_g (lw_at lw_m5 85 rfl) rfl
theorem q1179 : (Jvm.Cond.fieldLinkNest "PointerAnalyzer$Program" (86 : Nat) "PointerAnalyzer$Statement" "function" "I" "PointerAnalyzer") ∈ lw_tbl := lw_at lw_m5 97 rfl
theorem q1185 : (Jvm.Cond.fieldLinkNest "PointerAnalyzer$Program" (89 : Nat) "PointerAnalyzer$Statement" "line" "LPointerAnalyzer$Line;" "PointerAnalyzer") ∈ lw_tbl := lw_at lw_m5 103 rfl
theorem q1203 : (Jvm.Cond.methodLink "PointerAnalyzer$Program" (71 : Nat) ({ cls := "java/util/ArrayList", name := "add", desc := "(Ljava/lang/Object;)Z" } : Jvm.MethodName)) ∈ lw_all := lw_g (lw_at lw_m5 121 rfl) rfl
theorem q2143 : (Jvm.Cond.instanceMethod ({ cls := "PointerAnalyzer$Program", name := "callees", desc := "(I)[Z" } : Jvm.MethodName)) ∈ lw_all := lw_g (lw_at lw_m9 101 rfl) rfl
theorem q2144 : (Jvm.Cond.selects "PointerAnalyzer$Program" ({ cls := "PointerAnalyzer$Program", name := "callees", desc := "(I)[Z" } : Jvm.MethodName) ({ cls := "PointerAnalyzer$Program", name := "callees", desc := "(I)[Z" } : Jvm.MethodName)) ∈ lw_all := lw_g (lw_at lw_m9 102 rfl) rfl
theorem q2145 : (Jvm.Cond.code ({ cls := "PointerAnalyzer$Program", name := "callees", desc := "(I)[Z" } : Jvm.MethodName) prog_12_method_4_code (7 : Nat) (Option.some (Jvm.ClassFile.FieldType.array Jvm.ClassFile.FieldType.boolean))) ∈ lw_all := lw_g (lw_at lw_m9 103 rfl) rfl
theorem q2146 : (Jvm.Cond.fieldLink "PointerAnalyzer$Program" (79 : Nat) "PointerAnalyzer$Kind" "CALL" "LPointerAnalyzer$Kind;") ∈ lw_all := lw_g (lw_at lw_m9 104 rfl) rfl
theorem q2147 : (Jvm.Cond.methodLink "PointerAnalyzer$Program" (82 : Nat) ({ cls := "PointerAnalyzer$Statement", name := "is", desc := "(LPointerAnalyzer$Kind;)Z" } : Jvm.MethodName)) ∈ lw_all := lw_g (lw_at lw_m9 105 rfl) rfl
theorem q2593 : (Jvm.Cond.fieldLinkNest "PointerAnalyzer$Program" (55 : Nat) "PointerAnalyzer$Line" "kind" "LPointerAnalyzer$Kind;" "PointerAnalyzer") ∈ lw_tbl := lw_at lw_m11 71 rfl
theorem q2615 : (Jvm.Cond.fieldLinkNest "PointerAnalyzer$Program" (93 : Nat) "PointerAnalyzer$Line" "extra" "I" "PointerAnalyzer") ∈ lw_tbl := lw_at lw_m11 93 rfl
theorem q2646 : (Jvm.Cond.instanceMethod ({ cls := "PointerAnalyzer$Program", name := "countAll", desc := "(LPointerAnalyzer$Kind;)I" } : Jvm.MethodName)) ∈ lw_all := lw_g (lw_at lw_m11 124 rfl) rfl
theorem q2647 : (Jvm.Cond.selects "PointerAnalyzer$Program" ({ cls := "PointerAnalyzer$Program", name := "countAll", desc := "(LPointerAnalyzer$Kind;)I" } : Jvm.MethodName) ({ cls := "PointerAnalyzer$Program", name := "countAll", desc := "(LPointerAnalyzer$Kind;)I" } : Jvm.MethodName)) ∈ lw_all := lw_g (lw_at lw_m11 125 rfl) rfl
theorem q2648 : (Jvm.Cond.code ({ cls := "PointerAnalyzer$Program", name := "countAll", desc := "(LPointerAnalyzer$Kind;)I" } : Jvm.MethodName) prog_12_method_3_code (4 : Nat) (Option.some Jvm.ClassFile.FieldType.int)) ∈ lw_all := lw_g (lw_at lw_m11 126 rfl) rfl
theorem q2649 : (Jvm.Cond.methodLinkNest "PointerAnalyzer$Program" (75 : Nat) ({ cls := "PointerAnalyzer", name := "count", desc := "(Ljava/util/ArrayList;LPointerAnalyzer$Kind;)I" } : Jvm.MethodName) "PointerAnalyzer") ∈ lw_tbl := lw_at lw_m11 127 rfl
theorem q3464 : (Jvm.Cond.castable "PointerAnalyzer$Program" "java/lang/Object") ∈ lw_tbl := lw_at lw_m14 222 rfl
theorem in_X2 : ∀ w ∈ wsX20, w ∈ lw_all := lw_in wsX20 [710, 712, 714] (by decide +kernel) (by decide +kernel)

/-! PointerAnalyzer$Statement -/
set_option maxRecDepth 100000
def RX3 : String := "PointerAnalyzer$Statement"
def TX3 : u_T := fun k => match k with
  | 0 => ("PointerAnalyzer$Statement", "number", "I", true)
  | 1 => ("PointerAnalyzer$Statement", "function", "I", true)
  | 2 => ("PointerAnalyzer$Statement", "line", "LPointerAnalyzer$Line;", true)
  | _ => ("PointerAnalyzer$Statement", "site", "I", true)
def tyX3 : Nat → FieldType := fun k => match k with
  | 0 => .int
  | 1 => .int
  | 2 => .object "PointerAnalyzer$Line"
  | _ => .int
abbrev wsX30 : List Cond := u_ws RX3 TX3 4
theorem nmX3 : ∀ a, a < 4 → ∀ b, b < 4 → a ≠ b → (TX3 a).2.1 ≠ (TX3 b).2.1 := by decide +kernel
theorem tyX3_ok : ∀ k, k < 4 → parseFieldDescriptor (TX3 k).2.2.1 = some (tyX3 k) := by decide +kernel
abbrev cX3_init : ByteArray := prog_17_method_1_code
def yX3_init : MethodName := ⟨RX3, "<init>", "(IILPointerAnalyzer$Line;I)V"⟩
def dkwX3_init_1 : List UInt8 := [181, 0, 20, 177]
abbrev dktX3_init_1 : List UInt8 := dkwX3_init_1 ++ []
def dkwX3_init_0 : List UInt8 := [42, 183, 0, 1, 42, 27, 181, 0, 7, 42, 28, 181, 0, 13, 42, 45, 181, 0, 16, 42, 21, 4]
abbrev dktX3_init_0 : List UInt8 := dkwX3_init_0 ++ dktX3_init_1
theorem dksX3_init_0 : cX3_init.data.toList.drop 0 = dktX3_init_0 := by decide +kernel
theorem dksX3_init_1 : cX3_init.data.toList.drop 22 = dktX3_init_1 := dk_seg dksX3_init_0 22 rfl rfl
theorem dX3_init_0 : decode cX3_init 0 = .ok (.aload_n 0, 1) := dk_42 (dk_at dksX3_init_0 0 rfl rfl)
theorem dX3_init_1 : decode cX3_init 1 = .ok (.invokespecial 1, 3) := dk_183 0 1 (dk_at dksX3_init_0 1 rfl rfl)
theorem dX3_init_4 : decode cX3_init 4 = .ok (.aload_n 0, 1) := dk_42 (dk_at dksX3_init_0 4 rfl rfl)
theorem dX3_init_5 : decode cX3_init 5 = .ok (.iload_n 1, 1) := dk_27 (dk_at dksX3_init_0 5 rfl rfl)
theorem dX3_init_6 : decode cX3_init 6 = .ok (.putfield 7, 3) := dk_181 0 7 (dk_at dksX3_init_0 6 rfl rfl)
theorem dX3_init_9 : decode cX3_init 9 = .ok (.aload_n 0, 1) := dk_42 (dk_at dksX3_init_0 9 rfl rfl)
theorem dX3_init_10 : decode cX3_init 10 = .ok (.iload_n 2, 1) := dk_28 (dk_at dksX3_init_0 10 rfl rfl)
theorem dX3_init_11 : decode cX3_init 11 = .ok (.putfield 13, 3) := dk_181 0 13 (dk_at dksX3_init_0 11 rfl rfl)
theorem dX3_init_14 : decode cX3_init 14 = .ok (.aload_n 0, 1) := dk_42 (dk_at dksX3_init_0 14 rfl rfl)
theorem dX3_init_15 : decode cX3_init 15 = .ok (.aload_n 3, 1) := dk_45 (dk_at dksX3_init_0 15 rfl rfl)
theorem dX3_init_16 : decode cX3_init 16 = .ok (.putfield 16, 3) := dk_181 0 16 (dk_at dksX3_init_0 16 rfl rfl)
theorem dX3_init_19 : decode cX3_init 19 = .ok (.aload_n 0, 1) := dk_42 (dk_at dksX3_init_0 19 rfl rfl)
theorem dX3_init_20 : decode cX3_init 20 = .ok (.iload 4, 2) := dk_21 4 (dk_at dksX3_init_0 20 rfl rfl)
theorem dX3_init_22 : decode cX3_init 22 = .ok (.putfield 20, 3) := dk_181 0 20 (dk_at dksX3_init_1 0 rfl rfl)
theorem dX3_init_25 : decode cX3_init 25 = .ok (.return_, 1) := dk_177 (dk_at dksX3_init_1 3 rfl rfl)
abbrev cX3_is : ByteArray := prog_17_method_2_code
def yX3_is : MethodName := ⟨RX3, "is", "(LPointerAnalyzer$Kind;)Z"⟩
def dkwX3_is_0 : List UInt8 := [42, 180, 0, 16, 180, 0, 23, 43, 166, 0, 7, 4, 167, 0, 4, 3, 172]
abbrev dktX3_is_0 : List UInt8 := dkwX3_is_0 ++ []
theorem dksX3_is_0 : cX3_is.data.toList.drop 0 = dktX3_is_0 := by decide +kernel
theorem dX3_is_0 : decode cX3_is 0 = .ok (.aload_n 0, 1) := dk_42 (dk_at dksX3_is_0 0 rfl rfl)
theorem dX3_is_1 : decode cX3_is 1 = .ok (.getfield 16, 3) := dk_180 0 16 (dk_at dksX3_is_0 1 rfl rfl)
theorem dX3_is_4 : decode cX3_is 4 = .ok (.getfield 23, 3) := dk_180 0 23 (dk_at dksX3_is_0 4 rfl rfl)
theorem dX3_is_7 : decode cX3_is 7 = .ok (.aload_n 1, 1) := dk_43 (dk_at dksX3_is_0 7 rfl rfl)
theorem dX3_is_8 : decode cX3_is 8 = .ok (.if_acmp .ne 7, 3) := dk_166 0 7 (dk_at dksX3_is_0 8 rfl rfl)
theorem dX3_is_11 : decode cX3_is 11 = .ok (.iconst 1, 1) := dk_4 (dk_at dksX3_is_0 11 rfl rfl)
theorem dX3_is_12 : decode cX3_is 12 = .ok (.goto 4, 3) := dk_167 0 4 (dk_at dksX3_is_0 12 rfl rfl)
theorem dX3_is_15 : decode cX3_is 15 = .ok (.iconst 0, 1) := dk_3 (dk_at dksX3_is_0 15 rfl rfl)
theorem dX3_is_16 : decode cX3_is 16 = .ok (.ireturn, 1) := dk_172 (dk_at dksX3_is_0 16 rfl rfl)
theorem q155 : (Jvm.Cond.initialized "PointerAnalyzer$Statement") ∈ lw_all := lw_g (lw_at lw_m1 33 rfl) rfl
theorem q354 : (Jvm.Cond.selects "PointerAnalyzer$Statement" ({ cls := "java/lang/Object", name := "getClass", desc := "()Ljava/lang/Class;" } : Jvm.MethodName) ({ cls := "java/lang/Object", name := "getClass", desc := "()Ljava/lang/Class;" } : Jvm.MethodName)) ∈ lw_all := lw_g (lw_at lw_m1 232 rfl) rfl
theorem q777 : (Jvm.Cond.selects "PointerAnalyzer$Statement" ({ cls := "java/lang/Object", name := "equals", desc := "(Ljava/lang/Object;)Z" } : Jvm.MethodName) ({ cls := "java/lang/Object", name := "equals", desc := "(Ljava/lang/Object;)Z" } : Jvm.MethodName)) ∈ lw_all := lw_g (lw_at lw_m3 175 rfl) rfl
theorem q1164 : (Jvm.Cond.instantiable "PointerAnalyzer$Statement" (4 : Nat)) ∈ lw_all := lw_g (lw_at lw_m5 82 rfl) rfl
theorem q1168 : (Jvm.Cond.instanceMethod ({ cls := "PointerAnalyzer$Statement", name := "<init>", desc := "(IILPointerAnalyzer$Line;I)V" } : Jvm.MethodName)) ∈ lw_all := lw_g (lw_at lw_m5 86 rfl) rfl
theorem q1169 : (Jvm.Cond.code ({ cls := "PointerAnalyzer$Statement", name := "<init>", desc := "(IILPointerAnalyzer$Line;I)V" } : Jvm.MethodName) prog_17_method_1_code (5 : Nat) (Option.none : Option Jvm.ClassFile.FieldType)) ∈ lw_all := lw_g (lw_at lw_m5 87 rfl) rfl
theorem q1170 : (Jvm.Cond.methodLink "PointerAnalyzer$Statement" (1 : Nat) ({ cls := "java/lang/Object", name := "<init>", desc := "()V" } : Jvm.MethodName)) ∈ lw_all := lw_g (lw_at lw_m5 88 rfl) rfl
theorem q1171 : (Jvm.Cond.fieldLink "PointerAnalyzer$Statement" (7 : Nat) "PointerAnalyzer$Statement" "number" "I") ∈ lw_all := lw_g (lw_at lw_m5 89 rfl) rfl
theorem q1174 : (Jvm.Cond.fieldLink "PointerAnalyzer$Statement" (13 : Nat) "PointerAnalyzer$Statement" "function" "I") ∈ lw_all := lw_g (lw_at lw_m5 92 rfl) rfl
theorem q1181 : (Jvm.Cond.fieldLink "PointerAnalyzer$Statement" (16 : Nat) "PointerAnalyzer$Statement" "line" "LPointerAnalyzer$Line;") ∈ lw_all := lw_g (lw_at lw_m5 99 rfl) rfl
theorem q1189 : (Jvm.Cond.fieldLink "PointerAnalyzer$Statement" (20 : Nat) "PointerAnalyzer$Statement" "site" "I") ∈ lw_all := lw_g (lw_at lw_m5 107 rfl) rfl
theorem q1194 : (Jvm.Cond.laysFinal "PointerAnalyzer$Statement" "PointerAnalyzer$Statement" "number" "I") ∈ lw_all := lw_g (lw_at lw_m5 112 rfl) rfl
theorem q1195 : (Jvm.Cond.soleField "PointerAnalyzer$Statement" "number") ∈ lw_all := lw_g (lw_at lw_m5 113 rfl) rfl
theorem q1196 : (Jvm.Cond.laysFinal "PointerAnalyzer$Statement" "PointerAnalyzer$Statement" "function" "I") ∈ lw_all := lw_g (lw_at lw_m5 114 rfl) rfl
theorem q1197 : (Jvm.Cond.soleField "PointerAnalyzer$Statement" "function") ∈ lw_all := lw_g (lw_at lw_m5 115 rfl) rfl
theorem q1198 : (Jvm.Cond.laysFinal "PointerAnalyzer$Statement" "PointerAnalyzer$Statement" "line" "LPointerAnalyzer$Line;") ∈ lw_all := lw_g (lw_at lw_m5 116 rfl) rfl
theorem q1199 : (Jvm.Cond.soleField "PointerAnalyzer$Statement" "line") ∈ lw_all := lw_g (lw_at lw_m5 117 rfl) rfl
theorem q1200 : (Jvm.Cond.laysFinal "PointerAnalyzer$Statement" "PointerAnalyzer$Statement" "site" "I") ∈ lw_all := lw_g (lw_at lw_m5 118 rfl) rfl
theorem q1201 : (Jvm.Cond.soleField "PointerAnalyzer$Statement" "site") ∈ lw_all := lw_g (lw_at lw_m5 119 rfl) rfl
theorem q1202 : (Jvm.Cond.superclass "PointerAnalyzer$Statement" "java/lang/Object") ∈ lw_all := lw_g (lw_at lw_m5 120 rfl) rfl
theorem q1407 : (Jvm.Cond.instanceMethod ({ cls := "PointerAnalyzer$Statement", name := "is", desc := "(LPointerAnalyzer$Kind;)Z" } : Jvm.MethodName)) ∈ lw_all := lw_g (lw_at lw_m6 85 rfl) rfl
theorem q1408 : (Jvm.Cond.selects "PointerAnalyzer$Statement" ({ cls := "PointerAnalyzer$Statement", name := "is", desc := "(LPointerAnalyzer$Kind;)Z" } : Jvm.MethodName) ({ cls := "PointerAnalyzer$Statement", name := "is", desc := "(LPointerAnalyzer$Kind;)Z" } : Jvm.MethodName)) ∈ lw_all := lw_g (lw_at lw_m6 86 rfl) rfl
theorem q1409 : (Jvm.Cond.code ({ cls := "PointerAnalyzer$Statement", name := "is", desc := "(LPointerAnalyzer$Kind;)Z" } : Jvm.MethodName) prog_17_method_2_code (2 : Nat) (Option.some Jvm.ClassFile.FieldType.boolean)) ∈ lw_all := lw_g (lw_at lw_m6 87 rfl) rfl
theorem q2592 : (Jvm.Cond.fieldLinkNest "PointerAnalyzer$Statement" (23 : Nat) "PointerAnalyzer$Line" "kind" "LPointerAnalyzer$Kind;" "PointerAnalyzer") ∈ lw_tbl := lw_at lw_m11 70 rfl
theorem q3472 : (Jvm.Cond.castable "PointerAnalyzer$Statement" "java/lang/Object") ∈ lw_tbl := lw_at lw_m14 230 rfl
theorem in_X3 : ∀ w ∈ wsX30, w ∈ lw_all := lw_in wsX30 [1194, 1196, 1198, 1200] (by decide +kernel) (by decide +kernel)

/-! PointerAnalyzer$Reader -/
set_option maxRecDepth 100000
def RX5 : String := "PointerAnalyzer$Reader"
def TX5 : u_T := fun k => match k with
  | 0 => ("PointerAnalyzer$Reader", "function", "I", true)
  | 1 => ("PointerAnalyzer$Reader", "lines", "Ljava/util/ArrayList;", true)
  | 2 => ("PointerAnalyzer$Reader", "at", "I", false)
  | _ => ("PointerAnalyzer$Reader", "this$0", "LPointerAnalyzer;", true)
def tyX5 : Nat → FieldType := fun k => match k with
  | 0 => .int
  | 1 => .object "java/util/ArrayList"
  | 2 => .int
  | _ => .object "PointerAnalyzer"
abbrev wsX50 : List Cond := u_ws RX5 TX5 4
theorem nmX5 : ∀ a, a < 4 → ∀ b, b < 4 → a ≠ b → (TX5 a).2.1 ≠ (TX5 b).2.1 := by decide +kernel
theorem tyX5_ok : ∀ k, k < 4 → parseFieldDescriptor (TX5 k).2.2.1 = some (tyX5 k) := by decide +kernel
abbrev cX5_init : ByteArray := prog_14_method_1_code
def yX5_init : MethodName := ⟨RX5, "<init>", "(LPointerAnalyzer;I)V"⟩
def dkwX5_init_1 : List UInt8 := [181, 0, 22, 177]
abbrev dktX5_init_1 : List UInt8 := dkwX5_init_1 ++ []
def dkwX5_init_0 : List UInt8 := [42, 43, 181, 0, 3, 42, 183, 0, 9, 42, 187, 0, 15, 89, 183, 0, 17, 181, 0, 18, 42, 28]
abbrev dktX5_init_0 : List UInt8 := dkwX5_init_0 ++ dktX5_init_1
theorem dksX5_init_0 : cX5_init.data.toList.drop 0 = dktX5_init_0 := by decide +kernel
theorem dksX5_init_1 : cX5_init.data.toList.drop 22 = dktX5_init_1 := dk_seg dksX5_init_0 22 rfl rfl
theorem dX5_init_0 : decode cX5_init 0 = .ok (.aload_n 0, 1) := dk_42 (dk_at dksX5_init_0 0 rfl rfl)
theorem dX5_init_1 : decode cX5_init 1 = .ok (.aload_n 1, 1) := dk_43 (dk_at dksX5_init_0 1 rfl rfl)
theorem dX5_init_2 : decode cX5_init 2 = .ok (.putfield 3, 3) := dk_181 0 3 (dk_at dksX5_init_0 2 rfl rfl)
theorem dX5_init_5 : decode cX5_init 5 = .ok (.aload_n 0, 1) := dk_42 (dk_at dksX5_init_0 5 rfl rfl)
theorem dX5_init_6 : decode cX5_init 6 = .ok (.invokespecial 9, 3) := dk_183 0 9 (dk_at dksX5_init_0 6 rfl rfl)
theorem dX5_init_9 : decode cX5_init 9 = .ok (.aload_n 0, 1) := dk_42 (dk_at dksX5_init_0 9 rfl rfl)
theorem dX5_init_10 : decode cX5_init 10 = .ok (.new 15, 3) := dk_187 0 15 (dk_at dksX5_init_0 10 rfl rfl)
theorem dX5_init_13 : decode cX5_init 13 = .ok (.dup, 1) := dk_89 (dk_at dksX5_init_0 13 rfl rfl)
theorem dX5_init_14 : decode cX5_init 14 = .ok (.invokespecial 17, 3) := dk_183 0 17 (dk_at dksX5_init_0 14 rfl rfl)
theorem dX5_init_17 : decode cX5_init 17 = .ok (.putfield 18, 3) := dk_181 0 18 (dk_at dksX5_init_0 17 rfl rfl)
theorem dX5_init_20 : decode cX5_init 20 = .ok (.aload_n 0, 1) := dk_42 (dk_at dksX5_init_0 20 rfl rfl)
theorem dX5_init_21 : decode cX5_init 21 = .ok (.iload_n 2, 1) := dk_28 (dk_at dksX5_init_0 21 rfl rfl)
theorem dX5_init_22 : decode cX5_init 22 = .ok (.putfield 22, 3) := dk_181 0 22 (dk_at dksX5_init_1 0 rfl rfl)
theorem dX5_init_25 : decode cX5_init 25 = .ok (.return_, 1) := dk_177 (dk_at dksX5_init_1 3 rfl rfl)
abbrev cX5_body : ByteArray := prog_14_method_9_code
def yX5_body : MethodName := ⟨RX5, "body", "()V"⟩
def dkwX5_body_2 : List UInt8 := [180, 0, 18, 42, 182, 0, 109, 182, 0, 112, 87, 167, 255, 220, 177]
abbrev dktX5_body_2 : List UInt8 := dkwX5_body_2 ++ []
def dkwX5_body_1 : List UInt8 := [180, 0, 26, 42, 180, 0, 3, 180, 0, 29, 162, 0, 28, 42, 42, 16, 59, 182, 0, 69, 182, 0, 53, 42]
abbrev dktX5_body_1 : List UInt8 := dkwX5_body_1 ++ dktX5_body_2
def dkwX5_body_0 : List UInt8 := [42, 180, 0, 3, 180, 0, 29, 158, 0, 15, 42, 180, 0, 18, 42, 182, 0, 109, 182, 0, 112, 87, 42]
abbrev dktX5_body_0 : List UInt8 := dkwX5_body_0 ++ dktX5_body_1
theorem dksX5_body_0 : cX5_body.data.toList.drop 0 = dktX5_body_0 := by decide +kernel
theorem dksX5_body_1 : cX5_body.data.toList.drop 23 = dktX5_body_1 := dk_seg dksX5_body_0 23 rfl rfl
theorem dksX5_body_2 : cX5_body.data.toList.drop 47 = dktX5_body_2 := dk_seg dksX5_body_1 24 rfl rfl
theorem dX5_body_0 : decode cX5_body 0 = .ok (.aload_n 0, 1) := dk_42 (dk_at dksX5_body_0 0 rfl rfl)
theorem dX5_body_1 : decode cX5_body 1 = .ok (.getfield 3, 3) := dk_180 0 3 (dk_at dksX5_body_0 1 rfl rfl)
theorem dX5_body_4 : decode cX5_body 4 = .ok (.getfield 29, 3) := dk_180 0 29 (dk_at dksX5_body_0 4 rfl rfl)
theorem dX5_body_7 : decode cX5_body 7 = .ok (.ifCond .le 15, 3) := dk_158 0 15 (dk_at dksX5_body_0 7 rfl rfl)
theorem dX5_body_10 : decode cX5_body 10 = .ok (.aload_n 0, 1) := dk_42 (dk_at dksX5_body_0 10 rfl rfl)
theorem dX5_body_11 : decode cX5_body 11 = .ok (.getfield 18, 3) := dk_180 0 18 (dk_at dksX5_body_0 11 rfl rfl)
theorem dX5_body_14 : decode cX5_body 14 = .ok (.aload_n 0, 1) := dk_42 (dk_at dksX5_body_0 14 rfl rfl)
theorem dX5_body_15 : decode cX5_body 15 = .ok (.invokevirtual 109, 3) := dk_182 0 109 (dk_at dksX5_body_0 15 rfl rfl)
theorem dX5_body_18 : decode cX5_body 18 = .ok (.invokevirtual 112, 3) := dk_182 0 112 (dk_at dksX5_body_0 18 rfl rfl)
theorem dX5_body_21 : decode cX5_body 21 = .ok (.pop, 1) := dk_87 (dk_at dksX5_body_0 21 rfl rfl)
theorem dX5_body_22 : decode cX5_body 22 = .ok (.aload_n 0, 1) := dk_42 (dk_at dksX5_body_0 22 rfl rfl)
theorem dX5_body_23 : decode cX5_body 23 = .ok (.getfield 26, 3) := dk_180 0 26 (dk_at dksX5_body_1 0 rfl rfl)
theorem dX5_body_26 : decode cX5_body 26 = .ok (.aload_n 0, 1) := dk_42 (dk_at dksX5_body_1 3 rfl rfl)
theorem dX5_body_27 : decode cX5_body 27 = .ok (.getfield 3, 3) := dk_180 0 3 (dk_at dksX5_body_1 4 rfl rfl)
theorem dX5_body_30 : decode cX5_body 30 = .ok (.getfield 29, 3) := dk_180 0 29 (dk_at dksX5_body_1 7 rfl rfl)
theorem dX5_body_33 : decode cX5_body 33 = .ok (.if_icmp .ge 28, 3) := dk_162 0 28 (dk_at dksX5_body_1 10 rfl rfl)
theorem dX5_body_36 : decode cX5_body 36 = .ok (.aload_n 0, 1) := dk_42 (dk_at dksX5_body_1 13 rfl rfl)
theorem dX5_body_37 : decode cX5_body 37 = .ok (.aload_n 0, 1) := dk_42 (dk_at dksX5_body_1 14 rfl rfl)
theorem dX5_body_38 : decode cX5_body 38 = .ok (.bipush 59, 2) := dk_16 59 (dk_at dksX5_body_1 15 rfl rfl)
theorem dX5_body_40 : decode cX5_body 40 = .ok (.invokevirtual 69, 3) := dk_182 0 69 (dk_at dksX5_body_1 17 rfl rfl)
theorem dX5_body_43 : decode cX5_body 43 = .ok (.invokevirtual 53, 3) := dk_182 0 53 (dk_at dksX5_body_1 20 rfl rfl)
theorem dX5_body_46 : decode cX5_body 46 = .ok (.aload_n 0, 1) := dk_42 (dk_at dksX5_body_1 23 rfl rfl)
theorem dX5_body_47 : decode cX5_body 47 = .ok (.getfield 18, 3) := dk_180 0 18 (dk_at dksX5_body_2 0 rfl rfl)
theorem dX5_body_50 : decode cX5_body 50 = .ok (.aload_n 0, 1) := dk_42 (dk_at dksX5_body_2 3 rfl rfl)
theorem dX5_body_51 : decode cX5_body 51 = .ok (.invokevirtual 109, 3) := dk_182 0 109 (dk_at dksX5_body_2 4 rfl rfl)
theorem dX5_body_54 : decode cX5_body 54 = .ok (.invokevirtual 112, 3) := dk_182 0 112 (dk_at dksX5_body_2 7 rfl rfl)
theorem dX5_body_57 : decode cX5_body 57 = .ok (.pop, 1) := dk_87 (dk_at dksX5_body_2 10 rfl rfl)
theorem dX5_body_58 : decode cX5_body 58 = .ok (.goto (-36), 3) := dk_167 255 220 (dk_at dksX5_body_2 11 rfl rfl)
theorem dX5_body_61 : decode cX5_body 61 = .ok (.return_, 1) := dk_177 (dk_at dksX5_body_2 14 rfl rfl)
abbrev cX5_statement : ByteArray := prog_14_method_8_code
def yX5_statement : MethodName := ⟨RX5, "statement", "()LPointerAnalyzer$Line;"⟩
def dkwX5_statement_1 : List UInt8 := [182, 0, 69, 182, 0, 53, 187, 0, 73, 89, 178, 0, 106, 27, 42, 182, 0, 65, 3, 183, 0, 81, 176]
abbrev dktX5_statement_1 : List UInt8 := dkwX5_statement_1 ++ []
def dkwX5_statement_0 : List UInt8 := [42, 16, 42, 182, 0, 69, 154, 0, 8, 42, 182, 0, 102, 176, 42, 182, 0, 65, 60, 42, 42, 16, 61]
abbrev dktX5_statement_0 : List UInt8 := dkwX5_statement_0 ++ dktX5_statement_1
theorem dksX5_statement_0 : cX5_statement.data.toList.drop 0 = dktX5_statement_0 := by decide +kernel
theorem dksX5_statement_1 : cX5_statement.data.toList.drop 23 = dktX5_statement_1 := dk_seg dksX5_statement_0 23 rfl rfl
theorem dX5_statement_0 : decode cX5_statement 0 = .ok (.aload_n 0, 1) := dk_42 (dk_at dksX5_statement_0 0 rfl rfl)
theorem dX5_statement_1 : decode cX5_statement 1 = .ok (.bipush 42, 2) := dk_16 42 (dk_at dksX5_statement_0 1 rfl rfl)
theorem dX5_statement_3 : decode cX5_statement 3 = .ok (.invokevirtual 69, 3) := dk_182 0 69 (dk_at dksX5_statement_0 3 rfl rfl)
theorem dX5_statement_6 : decode cX5_statement 6 = .ok (.ifCond .ne 8, 3) := dk_154 0 8 (dk_at dksX5_statement_0 6 rfl rfl)
theorem dX5_statement_9 : decode cX5_statement 9 = .ok (.aload_n 0, 1) := dk_42 (dk_at dksX5_statement_0 9 rfl rfl)
theorem dX5_statement_10 : decode cX5_statement 10 = .ok (.invokevirtual 102, 3) := dk_182 0 102 (dk_at dksX5_statement_0 10 rfl rfl)
theorem dX5_statement_13 : decode cX5_statement 13 = .ok (.areturn, 1) := dk_176 (dk_at dksX5_statement_0 13 rfl rfl)
theorem dX5_statement_14 : decode cX5_statement 14 = .ok (.aload_n 0, 1) := dk_42 (dk_at dksX5_statement_0 14 rfl rfl)
theorem dX5_statement_15 : decode cX5_statement 15 = .ok (.invokevirtual 65, 3) := dk_182 0 65 (dk_at dksX5_statement_0 15 rfl rfl)
theorem dX5_statement_18 : decode cX5_statement 18 = .ok (.istore_n 1, 1) := dk_60 (dk_at dksX5_statement_0 18 rfl rfl)
theorem dX5_statement_19 : decode cX5_statement 19 = .ok (.aload_n 0, 1) := dk_42 (dk_at dksX5_statement_0 19 rfl rfl)
theorem dX5_statement_20 : decode cX5_statement 20 = .ok (.aload_n 0, 1) := dk_42 (dk_at dksX5_statement_0 20 rfl rfl)
theorem dX5_statement_21 : decode cX5_statement 21 = .ok (.bipush 61, 2) := dk_16 61 (dk_at dksX5_statement_0 21 rfl rfl)
theorem dX5_statement_23 : decode cX5_statement 23 = .ok (.invokevirtual 69, 3) := dk_182 0 69 (dk_at dksX5_statement_1 0 rfl rfl)
theorem dX5_statement_26 : decode cX5_statement 26 = .ok (.invokevirtual 53, 3) := dk_182 0 53 (dk_at dksX5_statement_1 3 rfl rfl)
theorem dX5_statement_29 : decode cX5_statement 29 = .ok (.new 73, 3) := dk_187 0 73 (dk_at dksX5_statement_1 6 rfl rfl)
theorem dX5_statement_32 : decode cX5_statement 32 = .ok (.dup, 1) := dk_89 (dk_at dksX5_statement_1 9 rfl rfl)
theorem dX5_statement_33 : decode cX5_statement 33 = .ok (.getstatic 106, 3) := dk_178 0 106 (dk_at dksX5_statement_1 10 rfl rfl)
theorem dX5_statement_36 : decode cX5_statement 36 = .ok (.iload_n 1, 1) := dk_27 (dk_at dksX5_statement_1 13 rfl rfl)
theorem dX5_statement_37 : decode cX5_statement 37 = .ok (.aload_n 0, 1) := dk_42 (dk_at dksX5_statement_1 14 rfl rfl)
theorem dX5_statement_38 : decode cX5_statement 38 = .ok (.invokevirtual 65, 3) := dk_182 0 65 (dk_at dksX5_statement_1 15 rfl rfl)
theorem dX5_statement_41 : decode cX5_statement 41 = .ok (.iconst 0, 1) := dk_3 (dk_at dksX5_statement_1 18 rfl rfl)
theorem dX5_statement_42 : decode cX5_statement 42 = .ok (.invokespecial 81, 3) := dk_183 0 81 (dk_at dksX5_statement_1 19 rfl rfl)
theorem dX5_statement_45 : decode cX5_statement 45 = .ok (.areturn, 1) := dk_176 (dk_at dksX5_statement_1 22 rfl rfl)
abbrev cX5_passes : ByteArray := prog_14_method_3_code
def yX5_passes : MethodName := ⟨RX5, "passes", "(C)Z"⟩
def dkwX5_passes_1 : List UInt8 := [167, 0, 4, 3, 96, 181, 0, 26, 28, 172]
abbrev dktX5_passes_1 : List UInt8 := dkwX5_passes_1 ++ []
def dkwX5_passes_0 : List UInt8 := [42, 182, 0, 36, 27, 160, 0, 7, 4, 167, 0, 4, 3, 61, 42, 89, 180, 0, 26, 28, 153, 0, 7, 4]
abbrev dktX5_passes_0 : List UInt8 := dkwX5_passes_0 ++ dktX5_passes_1
theorem dksX5_passes_0 : cX5_passes.data.toList.drop 0 = dktX5_passes_0 := by decide +kernel
theorem dksX5_passes_1 : cX5_passes.data.toList.drop 24 = dktX5_passes_1 := dk_seg dksX5_passes_0 24 rfl rfl
theorem dX5_passes_0 : decode cX5_passes 0 = .ok (.aload_n 0, 1) := dk_42 (dk_at dksX5_passes_0 0 rfl rfl)
theorem dX5_passes_1 : decode cX5_passes 1 = .ok (.invokevirtual 36, 3) := dk_182 0 36 (dk_at dksX5_passes_0 1 rfl rfl)
theorem dX5_passes_4 : decode cX5_passes 4 = .ok (.iload_n 1, 1) := dk_27 (dk_at dksX5_passes_0 4 rfl rfl)
theorem dX5_passes_5 : decode cX5_passes 5 = .ok (.if_icmp .ne 7, 3) := dk_160 0 7 (dk_at dksX5_passes_0 5 rfl rfl)
theorem dX5_passes_8 : decode cX5_passes 8 = .ok (.iconst 1, 1) := dk_4 (dk_at dksX5_passes_0 8 rfl rfl)
theorem dX5_passes_9 : decode cX5_passes 9 = .ok (.goto 4, 3) := dk_167 0 4 (dk_at dksX5_passes_0 9 rfl rfl)
theorem dX5_passes_12 : decode cX5_passes 12 = .ok (.iconst 0, 1) := dk_3 (dk_at dksX5_passes_0 12 rfl rfl)
theorem dX5_passes_13 : decode cX5_passes 13 = .ok (.istore_n 2, 1) := dk_61 (dk_at dksX5_passes_0 13 rfl rfl)
theorem dX5_passes_14 : decode cX5_passes 14 = .ok (.aload_n 0, 1) := dk_42 (dk_at dksX5_passes_0 14 rfl rfl)
theorem dX5_passes_15 : decode cX5_passes 15 = .ok (.dup, 1) := dk_89 (dk_at dksX5_passes_0 15 rfl rfl)
theorem dX5_passes_16 : decode cX5_passes 16 = .ok (.getfield 26, 3) := dk_180 0 26 (dk_at dksX5_passes_0 16 rfl rfl)
theorem dX5_passes_19 : decode cX5_passes 19 = .ok (.iload_n 2, 1) := dk_28 (dk_at dksX5_passes_0 19 rfl rfl)
theorem dX5_passes_20 : decode cX5_passes 20 = .ok (.ifCond .eq 7, 3) := dk_153 0 7 (dk_at dksX5_passes_0 20 rfl rfl)
theorem dX5_passes_23 : decode cX5_passes 23 = .ok (.iconst 1, 1) := dk_4 (dk_at dksX5_passes_0 23 rfl rfl)
theorem dX5_passes_24 : decode cX5_passes 24 = .ok (.goto 4, 3) := dk_167 0 4 (dk_at dksX5_passes_1 0 rfl rfl)
theorem dX5_passes_27 : decode cX5_passes 27 = .ok (.iconst 0, 1) := dk_3 (dk_at dksX5_passes_1 3 rfl rfl)
theorem dX5_passes_28 : decode cX5_passes 28 = .ok (.iadd, 1) := dk_96 (dk_at dksX5_passes_1 4 rfl rfl)
theorem dX5_passes_29 : decode cX5_passes 29 = .ok (.putfield 26, 3) := dk_181 0 26 (dk_at dksX5_passes_1 5 rfl rfl)
theorem dX5_passes_32 : decode cX5_passes 32 = .ok (.iload_n 2, 1) := dk_28 (dk_at dksX5_passes_1 8 rfl rfl)
theorem dX5_passes_33 : decode cX5_passes 33 = .ok (.ireturn, 1) := dk_172 (dk_at dksX5_passes_1 9 rfl rfl)
abbrev cX5_here : ByteArray := prog_14_method_2_code
def yX5_here : MethodName := ⟨RX5, "here", "()C"⟩
def dkwX5_here_1 : List UInt8 := [180, 0, 26, 52, 167, 0, 5, 16, 32, 172]
abbrev dktX5_here_1 : List UInt8 := dkwX5_here_1 ++ []
def dkwX5_here_0 : List UInt8 := [42, 180, 0, 26, 42, 180, 0, 3, 180, 0, 29, 162, 0, 18, 42, 180, 0, 3, 180, 0, 32, 42]
abbrev dktX5_here_0 : List UInt8 := dkwX5_here_0 ++ dktX5_here_1
theorem dksX5_here_0 : cX5_here.data.toList.drop 0 = dktX5_here_0 := by decide +kernel
theorem dksX5_here_1 : cX5_here.data.toList.drop 22 = dktX5_here_1 := dk_seg dksX5_here_0 22 rfl rfl
theorem dX5_here_0 : decode cX5_here 0 = .ok (.aload_n 0, 1) := dk_42 (dk_at dksX5_here_0 0 rfl rfl)
theorem dX5_here_1 : decode cX5_here 1 = .ok (.getfield 26, 3) := dk_180 0 26 (dk_at dksX5_here_0 1 rfl rfl)
theorem dX5_here_4 : decode cX5_here 4 = .ok (.aload_n 0, 1) := dk_42 (dk_at dksX5_here_0 4 rfl rfl)
theorem dX5_here_5 : decode cX5_here 5 = .ok (.getfield 3, 3) := dk_180 0 3 (dk_at dksX5_here_0 5 rfl rfl)
theorem dX5_here_8 : decode cX5_here 8 = .ok (.getfield 29, 3) := dk_180 0 29 (dk_at dksX5_here_0 8 rfl rfl)
theorem dX5_here_11 : decode cX5_here 11 = .ok (.if_icmp .ge 18, 3) := dk_162 0 18 (dk_at dksX5_here_0 11 rfl rfl)
theorem dX5_here_14 : decode cX5_here 14 = .ok (.aload_n 0, 1) := dk_42 (dk_at dksX5_here_0 14 rfl rfl)
theorem dX5_here_15 : decode cX5_here 15 = .ok (.getfield 3, 3) := dk_180 0 3 (dk_at dksX5_here_0 15 rfl rfl)
theorem dX5_here_18 : decode cX5_here 18 = .ok (.getfield 32, 3) := dk_180 0 32 (dk_at dksX5_here_0 18 rfl rfl)
theorem dX5_here_21 : decode cX5_here 21 = .ok (.aload_n 0, 1) := dk_42 (dk_at dksX5_here_0 21 rfl rfl)
theorem dX5_here_22 : decode cX5_here 22 = .ok (.getfield 26, 3) := dk_180 0 26 (dk_at dksX5_here_1 0 rfl rfl)
theorem dX5_here_25 : decode cX5_here 25 = .ok (.caload, 1) := dk_52 (dk_at dksX5_here_1 3 rfl rfl)
theorem dX5_here_26 : decode cX5_here 26 = .ok (.goto 5, 3) := dk_167 0 5 (dk_at dksX5_here_1 4 rfl rfl)
theorem dX5_here_29 : decode cX5_here 29 = .ok (.bipush 32, 2) := dk_16 32 (dk_at dksX5_here_1 7 rfl rfl)
theorem dX5_here_31 : decode cX5_here 31 = .ok (.ireturn, 1) := dk_172 (dk_at dksX5_here_1 9 rfl rfl)
abbrev cX5_assignment : ByteArray := prog_14_method_7_code
def yX5_assignment : MethodName := ⟨RX5, "assignment", "()LPointerAnalyzer$Line;"⟩
def dkwX5_assignment_8 : List UInt8 := [5, 182, 0, 90, 183, 0, 81, 167, 0, 16, 187, 0, 73, 89, 178, 0, 99, 27, 28, 3, 183, 0, 81, 176]
abbrev dktX5_assignment_8 : List UInt8 := dkwX5_assignment_8 ++ []
def dkwX5_assignment_7 : List UInt8 := [42, 182, 0, 65, 61, 42, 16, 43, 182, 0, 69, 153, 0, 23, 187, 0, 73, 89, 178, 0, 96, 27, 28, 42]
abbrev dktX5_assignment_7 : List UInt8 := dkwX5_assignment_7 ++ dktX5_assignment_8
def dkwX5_assignment_6 : List UInt8 := [42, 42, 16, 41, 182, 0, 69, 182, 0, 53, 187, 0, 73, 89, 178, 0, 93, 27, 29, 28, 183, 0, 81, 176]
abbrev dktX5_assignment_6 : List UInt8 := dkwX5_assignment_6 ++ dktX5_assignment_7
def dkwX5_assignment_5 : List UInt8 := [153, 0, 48, 42, 6, 182, 0, 90, 61, 42, 42, 16, 40, 182, 0, 69, 182, 0, 53, 42, 182, 0, 65, 62]
abbrev dktX5_assignment_5 : List UInt8 := dkwX5_assignment_5 ++ dktX5_assignment_6
def dkwX5_assignment_4 : List UInt8 := [182, 0, 53, 187, 0, 73, 89, 178, 0, 87, 27, 2, 3, 183, 0, 81, 176, 42, 16, 102, 182, 0, 69]
abbrev dktX5_assignment_4 : List UInt8 := dkwX5_assignment_4 ++ dktX5_assignment_5
def dkwX5_assignment_3 : List UInt8 := [182, 0, 69, 153, 0, 37, 42, 42, 16, 101, 182, 0, 69, 182, 0, 53, 42, 42, 16, 119, 182, 0, 69]
abbrev dktX5_assignment_3 : List UInt8 := dkwX5_assignment_3 ++ dktX5_assignment_4
def dkwX5_assignment_2 : List UInt8 := [153, 0, 20, 187, 0, 73, 89, 178, 0, 84, 27, 42, 182, 0, 65, 3, 183, 0, 81, 176, 42, 16, 110]
abbrev dktX5_assignment_2 : List UInt8 := dkwX5_assignment_2 ++ dktX5_assignment_3
def dkwX5_assignment_1 : List UInt8 := [187, 0, 73, 89, 178, 0, 75, 27, 42, 182, 0, 65, 3, 183, 0, 81, 176, 42, 16, 42, 182, 0, 69]
abbrev dktX5_assignment_1 : List UInt8 := dkwX5_assignment_1 ++ dktX5_assignment_2
def dkwX5_assignment_0 : List UInt8 := [42, 182, 0, 65, 60, 42, 42, 16, 61, 182, 0, 69, 182, 0, 53, 42, 16, 38, 182, 0, 69, 153, 0, 20]
abbrev dktX5_assignment_0 : List UInt8 := dkwX5_assignment_0 ++ dktX5_assignment_1
theorem dksX5_assignment_0 : cX5_assignment.data.toList.drop 0 = dktX5_assignment_0 := by decide +kernel
theorem dksX5_assignment_1 : cX5_assignment.data.toList.drop 24 = dktX5_assignment_1 := dk_seg dksX5_assignment_0 24 rfl rfl
theorem dksX5_assignment_2 : cX5_assignment.data.toList.drop 47 = dktX5_assignment_2 := dk_seg dksX5_assignment_1 23 rfl rfl
theorem dksX5_assignment_3 : cX5_assignment.data.toList.drop 70 = dktX5_assignment_3 := dk_seg dksX5_assignment_2 23 rfl rfl
theorem dksX5_assignment_4 : cX5_assignment.data.toList.drop 93 = dktX5_assignment_4 := dk_seg dksX5_assignment_3 23 rfl rfl
theorem dksX5_assignment_5 : cX5_assignment.data.toList.drop 116 = dktX5_assignment_5 := dk_seg dksX5_assignment_4 23 rfl rfl
theorem dksX5_assignment_6 : cX5_assignment.data.toList.drop 140 = dktX5_assignment_6 := dk_seg dksX5_assignment_5 24 rfl rfl
theorem dksX5_assignment_7 : cX5_assignment.data.toList.drop 164 = dktX5_assignment_7 := dk_seg dksX5_assignment_6 24 rfl rfl
theorem dksX5_assignment_8 : cX5_assignment.data.toList.drop 188 = dktX5_assignment_8 := dk_seg dksX5_assignment_7 24 rfl rfl
theorem dX5_assignment_0 : decode cX5_assignment 0 = .ok (.aload_n 0, 1) := dk_42 (dk_at dksX5_assignment_0 0 rfl rfl)
theorem dX5_assignment_1 : decode cX5_assignment 1 = .ok (.invokevirtual 65, 3) := dk_182 0 65 (dk_at dksX5_assignment_0 1 rfl rfl)
theorem dX5_assignment_4 : decode cX5_assignment 4 = .ok (.istore_n 1, 1) := dk_60 (dk_at dksX5_assignment_0 4 rfl rfl)
theorem dX5_assignment_5 : decode cX5_assignment 5 = .ok (.aload_n 0, 1) := dk_42 (dk_at dksX5_assignment_0 5 rfl rfl)
theorem dX5_assignment_6 : decode cX5_assignment 6 = .ok (.aload_n 0, 1) := dk_42 (dk_at dksX5_assignment_0 6 rfl rfl)
theorem dX5_assignment_7 : decode cX5_assignment 7 = .ok (.bipush 61, 2) := dk_16 61 (dk_at dksX5_assignment_0 7 rfl rfl)
theorem dX5_assignment_9 : decode cX5_assignment 9 = .ok (.invokevirtual 69, 3) := dk_182 0 69 (dk_at dksX5_assignment_0 9 rfl rfl)
theorem dX5_assignment_12 : decode cX5_assignment 12 = .ok (.invokevirtual 53, 3) := dk_182 0 53 (dk_at dksX5_assignment_0 12 rfl rfl)
theorem dX5_assignment_15 : decode cX5_assignment 15 = .ok (.aload_n 0, 1) := dk_42 (dk_at dksX5_assignment_0 15 rfl rfl)
theorem dX5_assignment_16 : decode cX5_assignment 16 = .ok (.bipush 38, 2) := dk_16 38 (dk_at dksX5_assignment_0 16 rfl rfl)
theorem dX5_assignment_18 : decode cX5_assignment 18 = .ok (.invokevirtual 69, 3) := dk_182 0 69 (dk_at dksX5_assignment_0 18 rfl rfl)
theorem dX5_assignment_21 : decode cX5_assignment 21 = .ok (.ifCond .eq 20, 3) := dk_153 0 20 (dk_at dksX5_assignment_0 21 rfl rfl)
theorem dX5_assignment_24 : decode cX5_assignment 24 = .ok (.new 73, 3) := dk_187 0 73 (dk_at dksX5_assignment_1 0 rfl rfl)
theorem dX5_assignment_27 : decode cX5_assignment 27 = .ok (.dup, 1) := dk_89 (dk_at dksX5_assignment_1 3 rfl rfl)
theorem dX5_assignment_28 : decode cX5_assignment 28 = .ok (.getstatic 75, 3) := dk_178 0 75 (dk_at dksX5_assignment_1 4 rfl rfl)
theorem dX5_assignment_31 : decode cX5_assignment 31 = .ok (.iload_n 1, 1) := dk_27 (dk_at dksX5_assignment_1 7 rfl rfl)
theorem dX5_assignment_32 : decode cX5_assignment 32 = .ok (.aload_n 0, 1) := dk_42 (dk_at dksX5_assignment_1 8 rfl rfl)
theorem dX5_assignment_33 : decode cX5_assignment 33 = .ok (.invokevirtual 65, 3) := dk_182 0 65 (dk_at dksX5_assignment_1 9 rfl rfl)
theorem dX5_assignment_36 : decode cX5_assignment 36 = .ok (.iconst 0, 1) := dk_3 (dk_at dksX5_assignment_1 12 rfl rfl)
theorem dX5_assignment_37 : decode cX5_assignment 37 = .ok (.invokespecial 81, 3) := dk_183 0 81 (dk_at dksX5_assignment_1 13 rfl rfl)
theorem dX5_assignment_40 : decode cX5_assignment 40 = .ok (.areturn, 1) := dk_176 (dk_at dksX5_assignment_1 16 rfl rfl)
theorem dX5_assignment_41 : decode cX5_assignment 41 = .ok (.aload_n 0, 1) := dk_42 (dk_at dksX5_assignment_1 17 rfl rfl)
theorem dX5_assignment_42 : decode cX5_assignment 42 = .ok (.bipush 42, 2) := dk_16 42 (dk_at dksX5_assignment_1 18 rfl rfl)
theorem dX5_assignment_44 : decode cX5_assignment 44 = .ok (.invokevirtual 69, 3) := dk_182 0 69 (dk_at dksX5_assignment_1 20 rfl rfl)
theorem dX5_assignment_47 : decode cX5_assignment 47 = .ok (.ifCond .eq 20, 3) := dk_153 0 20 (dk_at dksX5_assignment_2 0 rfl rfl)
theorem dX5_assignment_50 : decode cX5_assignment 50 = .ok (.new 73, 3) := dk_187 0 73 (dk_at dksX5_assignment_2 3 rfl rfl)
theorem dX5_assignment_53 : decode cX5_assignment 53 = .ok (.dup, 1) := dk_89 (dk_at dksX5_assignment_2 6 rfl rfl)
theorem dX5_assignment_54 : decode cX5_assignment 54 = .ok (.getstatic 84, 3) := dk_178 0 84 (dk_at dksX5_assignment_2 7 rfl rfl)
theorem dX5_assignment_57 : decode cX5_assignment 57 = .ok (.iload_n 1, 1) := dk_27 (dk_at dksX5_assignment_2 10 rfl rfl)
theorem dX5_assignment_58 : decode cX5_assignment 58 = .ok (.aload_n 0, 1) := dk_42 (dk_at dksX5_assignment_2 11 rfl rfl)
theorem dX5_assignment_59 : decode cX5_assignment 59 = .ok (.invokevirtual 65, 3) := dk_182 0 65 (dk_at dksX5_assignment_2 12 rfl rfl)
theorem dX5_assignment_62 : decode cX5_assignment 62 = .ok (.iconst 0, 1) := dk_3 (dk_at dksX5_assignment_2 15 rfl rfl)
theorem dX5_assignment_63 : decode cX5_assignment 63 = .ok (.invokespecial 81, 3) := dk_183 0 81 (dk_at dksX5_assignment_2 16 rfl rfl)
theorem dX5_assignment_66 : decode cX5_assignment 66 = .ok (.areturn, 1) := dk_176 (dk_at dksX5_assignment_2 19 rfl rfl)
theorem dX5_assignment_67 : decode cX5_assignment 67 = .ok (.aload_n 0, 1) := dk_42 (dk_at dksX5_assignment_2 20 rfl rfl)
theorem dX5_assignment_68 : decode cX5_assignment 68 = .ok (.bipush 110, 2) := dk_16 110 (dk_at dksX5_assignment_2 21 rfl rfl)
theorem dX5_assignment_70 : decode cX5_assignment 70 = .ok (.invokevirtual 69, 3) := dk_182 0 69 (dk_at dksX5_assignment_3 0 rfl rfl)
theorem dX5_assignment_73 : decode cX5_assignment 73 = .ok (.ifCond .eq 37, 3) := dk_153 0 37 (dk_at dksX5_assignment_3 3 rfl rfl)
theorem dX5_assignment_76 : decode cX5_assignment 76 = .ok (.aload_n 0, 1) := dk_42 (dk_at dksX5_assignment_3 6 rfl rfl)
theorem dX5_assignment_77 : decode cX5_assignment 77 = .ok (.aload_n 0, 1) := dk_42 (dk_at dksX5_assignment_3 7 rfl rfl)
theorem dX5_assignment_78 : decode cX5_assignment 78 = .ok (.bipush 101, 2) := dk_16 101 (dk_at dksX5_assignment_3 8 rfl rfl)
theorem dX5_assignment_80 : decode cX5_assignment 80 = .ok (.invokevirtual 69, 3) := dk_182 0 69 (dk_at dksX5_assignment_3 10 rfl rfl)
theorem dX5_assignment_83 : decode cX5_assignment 83 = .ok (.invokevirtual 53, 3) := dk_182 0 53 (dk_at dksX5_assignment_3 13 rfl rfl)
theorem dX5_assignment_86 : decode cX5_assignment 86 = .ok (.aload_n 0, 1) := dk_42 (dk_at dksX5_assignment_3 16 rfl rfl)
theorem dX5_assignment_87 : decode cX5_assignment 87 = .ok (.aload_n 0, 1) := dk_42 (dk_at dksX5_assignment_3 17 rfl rfl)
theorem dX5_assignment_88 : decode cX5_assignment 88 = .ok (.bipush 119, 2) := dk_16 119 (dk_at dksX5_assignment_3 18 rfl rfl)
theorem dX5_assignment_90 : decode cX5_assignment 90 = .ok (.invokevirtual 69, 3) := dk_182 0 69 (dk_at dksX5_assignment_3 20 rfl rfl)
theorem dX5_assignment_93 : decode cX5_assignment 93 = .ok (.invokevirtual 53, 3) := dk_182 0 53 (dk_at dksX5_assignment_4 0 rfl rfl)
theorem dX5_assignment_96 : decode cX5_assignment 96 = .ok (.new 73, 3) := dk_187 0 73 (dk_at dksX5_assignment_4 3 rfl rfl)
theorem dX5_assignment_99 : decode cX5_assignment 99 = .ok (.dup, 1) := dk_89 (dk_at dksX5_assignment_4 6 rfl rfl)
theorem dX5_assignment_100 : decode cX5_assignment 100 = .ok (.getstatic 87, 3) := dk_178 0 87 (dk_at dksX5_assignment_4 7 rfl rfl)
theorem dX5_assignment_103 : decode cX5_assignment 103 = .ok (.iload_n 1, 1) := dk_27 (dk_at dksX5_assignment_4 10 rfl rfl)
theorem dX5_assignment_104 : decode cX5_assignment 104 = .ok (.iconst (-1), 1) := dk_2 (dk_at dksX5_assignment_4 11 rfl rfl)
theorem dX5_assignment_105 : decode cX5_assignment 105 = .ok (.iconst 0, 1) := dk_3 (dk_at dksX5_assignment_4 12 rfl rfl)
theorem dX5_assignment_106 : decode cX5_assignment 106 = .ok (.invokespecial 81, 3) := dk_183 0 81 (dk_at dksX5_assignment_4 13 rfl rfl)
theorem dX5_assignment_109 : decode cX5_assignment 109 = .ok (.areturn, 1) := dk_176 (dk_at dksX5_assignment_4 16 rfl rfl)
theorem dX5_assignment_110 : decode cX5_assignment 110 = .ok (.aload_n 0, 1) := dk_42 (dk_at dksX5_assignment_4 17 rfl rfl)
theorem dX5_assignment_111 : decode cX5_assignment 111 = .ok (.bipush 102, 2) := dk_16 102 (dk_at dksX5_assignment_4 18 rfl rfl)
theorem dX5_assignment_113 : decode cX5_assignment 113 = .ok (.invokevirtual 69, 3) := dk_182 0 69 (dk_at dksX5_assignment_4 20 rfl rfl)
theorem dX5_assignment_116 : decode cX5_assignment 116 = .ok (.ifCond .eq 48, 3) := dk_153 0 48 (dk_at dksX5_assignment_5 0 rfl rfl)
theorem dX5_assignment_119 : decode cX5_assignment 119 = .ok (.aload_n 0, 1) := dk_42 (dk_at dksX5_assignment_5 3 rfl rfl)
theorem dX5_assignment_120 : decode cX5_assignment 120 = .ok (.iconst 3, 1) := dk_6 (dk_at dksX5_assignment_5 4 rfl rfl)
theorem dX5_assignment_121 : decode cX5_assignment 121 = .ok (.invokevirtual 90, 3) := dk_182 0 90 (dk_at dksX5_assignment_5 5 rfl rfl)
theorem dX5_assignment_124 : decode cX5_assignment 124 = .ok (.istore_n 2, 1) := dk_61 (dk_at dksX5_assignment_5 8 rfl rfl)
theorem dX5_assignment_125 : decode cX5_assignment 125 = .ok (.aload_n 0, 1) := dk_42 (dk_at dksX5_assignment_5 9 rfl rfl)
theorem dX5_assignment_126 : decode cX5_assignment 126 = .ok (.aload_n 0, 1) := dk_42 (dk_at dksX5_assignment_5 10 rfl rfl)
theorem dX5_assignment_127 : decode cX5_assignment 127 = .ok (.bipush 40, 2) := dk_16 40 (dk_at dksX5_assignment_5 11 rfl rfl)
theorem dX5_assignment_129 : decode cX5_assignment 129 = .ok (.invokevirtual 69, 3) := dk_182 0 69 (dk_at dksX5_assignment_5 13 rfl rfl)
theorem dX5_assignment_132 : decode cX5_assignment 132 = .ok (.invokevirtual 53, 3) := dk_182 0 53 (dk_at dksX5_assignment_5 16 rfl rfl)
theorem dX5_assignment_135 : decode cX5_assignment 135 = .ok (.aload_n 0, 1) := dk_42 (dk_at dksX5_assignment_5 19 rfl rfl)
theorem dX5_assignment_136 : decode cX5_assignment 136 = .ok (.invokevirtual 65, 3) := dk_182 0 65 (dk_at dksX5_assignment_5 20 rfl rfl)
theorem dX5_assignment_139 : decode cX5_assignment 139 = .ok (.istore_n 3, 1) := dk_62 (dk_at dksX5_assignment_5 23 rfl rfl)
theorem dX5_assignment_140 : decode cX5_assignment 140 = .ok (.aload_n 0, 1) := dk_42 (dk_at dksX5_assignment_6 0 rfl rfl)
theorem dX5_assignment_141 : decode cX5_assignment 141 = .ok (.aload_n 0, 1) := dk_42 (dk_at dksX5_assignment_6 1 rfl rfl)
theorem dX5_assignment_142 : decode cX5_assignment 142 = .ok (.bipush 41, 2) := dk_16 41 (dk_at dksX5_assignment_6 2 rfl rfl)
theorem dX5_assignment_144 : decode cX5_assignment 144 = .ok (.invokevirtual 69, 3) := dk_182 0 69 (dk_at dksX5_assignment_6 4 rfl rfl)
theorem dX5_assignment_147 : decode cX5_assignment 147 = .ok (.invokevirtual 53, 3) := dk_182 0 53 (dk_at dksX5_assignment_6 7 rfl rfl)
theorem dX5_assignment_150 : decode cX5_assignment 150 = .ok (.new 73, 3) := dk_187 0 73 (dk_at dksX5_assignment_6 10 rfl rfl)
theorem dX5_assignment_153 : decode cX5_assignment 153 = .ok (.dup, 1) := dk_89 (dk_at dksX5_assignment_6 13 rfl rfl)
theorem dX5_assignment_154 : decode cX5_assignment 154 = .ok (.getstatic 93, 3) := dk_178 0 93 (dk_at dksX5_assignment_6 14 rfl rfl)
theorem dX5_assignment_157 : decode cX5_assignment 157 = .ok (.iload_n 1, 1) := dk_27 (dk_at dksX5_assignment_6 17 rfl rfl)
theorem dX5_assignment_158 : decode cX5_assignment 158 = .ok (.iload_n 3, 1) := dk_29 (dk_at dksX5_assignment_6 18 rfl rfl)
theorem dX5_assignment_159 : decode cX5_assignment 159 = .ok (.iload_n 2, 1) := dk_28 (dk_at dksX5_assignment_6 19 rfl rfl)
theorem dX5_assignment_160 : decode cX5_assignment 160 = .ok (.invokespecial 81, 3) := dk_183 0 81 (dk_at dksX5_assignment_6 20 rfl rfl)
theorem dX5_assignment_163 : decode cX5_assignment 163 = .ok (.areturn, 1) := dk_176 (dk_at dksX5_assignment_6 23 rfl rfl)
theorem dX5_assignment_164 : decode cX5_assignment 164 = .ok (.aload_n 0, 1) := dk_42 (dk_at dksX5_assignment_7 0 rfl rfl)
theorem dX5_assignment_165 : decode cX5_assignment 165 = .ok (.invokevirtual 65, 3) := dk_182 0 65 (dk_at dksX5_assignment_7 1 rfl rfl)
theorem dX5_assignment_168 : decode cX5_assignment 168 = .ok (.istore_n 2, 1) := dk_61 (dk_at dksX5_assignment_7 4 rfl rfl)
theorem dX5_assignment_169 : decode cX5_assignment 169 = .ok (.aload_n 0, 1) := dk_42 (dk_at dksX5_assignment_7 5 rfl rfl)
theorem dX5_assignment_170 : decode cX5_assignment 170 = .ok (.bipush 43, 2) := dk_16 43 (dk_at dksX5_assignment_7 6 rfl rfl)
theorem dX5_assignment_172 : decode cX5_assignment 172 = .ok (.invokevirtual 69, 3) := dk_182 0 69 (dk_at dksX5_assignment_7 8 rfl rfl)
theorem dX5_assignment_175 : decode cX5_assignment 175 = .ok (.ifCond .eq 23, 3) := dk_153 0 23 (dk_at dksX5_assignment_7 11 rfl rfl)
theorem dX5_assignment_178 : decode cX5_assignment 178 = .ok (.new 73, 3) := dk_187 0 73 (dk_at dksX5_assignment_7 14 rfl rfl)
theorem dX5_assignment_181 : decode cX5_assignment 181 = .ok (.dup, 1) := dk_89 (dk_at dksX5_assignment_7 17 rfl rfl)
theorem dX5_assignment_182 : decode cX5_assignment 182 = .ok (.getstatic 96, 3) := dk_178 0 96 (dk_at dksX5_assignment_7 18 rfl rfl)
theorem dX5_assignment_185 : decode cX5_assignment 185 = .ok (.iload_n 1, 1) := dk_27 (dk_at dksX5_assignment_7 21 rfl rfl)
theorem dX5_assignment_186 : decode cX5_assignment 186 = .ok (.iload_n 2, 1) := dk_28 (dk_at dksX5_assignment_7 22 rfl rfl)
theorem dX5_assignment_187 : decode cX5_assignment 187 = .ok (.aload_n 0, 1) := dk_42 (dk_at dksX5_assignment_7 23 rfl rfl)
theorem dX5_assignment_188 : decode cX5_assignment 188 = .ok (.iconst 2, 1) := dk_5 (dk_at dksX5_assignment_8 0 rfl rfl)
theorem dX5_assignment_189 : decode cX5_assignment 189 = .ok (.invokevirtual 90, 3) := dk_182 0 90 (dk_at dksX5_assignment_8 1 rfl rfl)
theorem dX5_assignment_192 : decode cX5_assignment 192 = .ok (.invokespecial 81, 3) := dk_183 0 81 (dk_at dksX5_assignment_8 4 rfl rfl)
theorem dX5_assignment_195 : decode cX5_assignment 195 = .ok (.goto 16, 3) := dk_167 0 16 (dk_at dksX5_assignment_8 7 rfl rfl)
theorem dX5_assignment_198 : decode cX5_assignment 198 = .ok (.new 73, 3) := dk_187 0 73 (dk_at dksX5_assignment_8 10 rfl rfl)
theorem dX5_assignment_201 : decode cX5_assignment 201 = .ok (.dup, 1) := dk_89 (dk_at dksX5_assignment_8 13 rfl rfl)
theorem dX5_assignment_202 : decode cX5_assignment 202 = .ok (.getstatic 99, 3) := dk_178 0 99 (dk_at dksX5_assignment_8 14 rfl rfl)
theorem dX5_assignment_205 : decode cX5_assignment 205 = .ok (.iload_n 1, 1) := dk_27 (dk_at dksX5_assignment_8 17 rfl rfl)
theorem dX5_assignment_206 : decode cX5_assignment 206 = .ok (.iload_n 2, 1) := dk_28 (dk_at dksX5_assignment_8 18 rfl rfl)
theorem dX5_assignment_207 : decode cX5_assignment 207 = .ok (.iconst 0, 1) := dk_3 (dk_at dksX5_assignment_8 19 rfl rfl)
theorem dX5_assignment_208 : decode cX5_assignment 208 = .ok (.invokespecial 81, 3) := dk_183 0 81 (dk_at dksX5_assignment_8 20 rfl rfl)
theorem dX5_assignment_211 : decode cX5_assignment 211 = .ok (.areturn, 1) := dk_176 (dk_at dksX5_assignment_8 23 rfl rfl)
abbrev cX5_variable : ByteArray := prog_14_method_5_code
def yX5_variable : MethodName := ⟨RX5, "variable", "()I"⟩
def dkwX5_variable_2 : List UInt8 := [100, 184, 0, 57, 172]
abbrev dktX5_variable_2 : List UInt8 := dkwX5_variable_2 ++ []
def dkwX5_variable_1 : List UInt8 := [89, 180, 0, 26, 4, 96, 181, 0, 26, 27, 7, 162, 0, 7, 27, 167, 0, 13, 42, 180, 0, 22, 27, 7]
abbrev dktX5_variable_1 : List UInt8 := dkwX5_variable_1 ++ dktX5_variable_2
def dkwX5_variable_0 : List UInt8 := [18, 45, 42, 182, 0, 36, 182, 0, 47, 60, 42, 27, 155, 0, 7, 4, 167, 0, 4, 3, 182, 0, 53, 42]
abbrev dktX5_variable_0 : List UInt8 := dkwX5_variable_0 ++ dktX5_variable_1
theorem dksX5_variable_0 : cX5_variable.data.toList.drop 0 = dktX5_variable_0 := by decide +kernel
theorem dksX5_variable_1 : cX5_variable.data.toList.drop 24 = dktX5_variable_1 := dk_seg dksX5_variable_0 24 rfl rfl
theorem dksX5_variable_2 : cX5_variable.data.toList.drop 48 = dktX5_variable_2 := dk_seg dksX5_variable_1 24 rfl rfl
theorem dX5_variable_0 : decode cX5_variable 0 = .ok (.ldc 45, 2) := dk_18 45 (dk_at dksX5_variable_0 0 rfl rfl)
theorem dX5_variable_2 : decode cX5_variable 2 = .ok (.aload_n 0, 1) := dk_42 (dk_at dksX5_variable_0 2 rfl rfl)
theorem dX5_variable_3 : decode cX5_variable 3 = .ok (.invokevirtual 36, 3) := dk_182 0 36 (dk_at dksX5_variable_0 3 rfl rfl)
theorem dX5_variable_6 : decode cX5_variable 6 = .ok (.invokevirtual 47, 3) := dk_182 0 47 (dk_at dksX5_variable_0 6 rfl rfl)
theorem dX5_variable_9 : decode cX5_variable 9 = .ok (.istore_n 1, 1) := dk_60 (dk_at dksX5_variable_0 9 rfl rfl)
theorem dX5_variable_10 : decode cX5_variable 10 = .ok (.aload_n 0, 1) := dk_42 (dk_at dksX5_variable_0 10 rfl rfl)
theorem dX5_variable_11 : decode cX5_variable 11 = .ok (.iload_n 1, 1) := dk_27 (dk_at dksX5_variable_0 11 rfl rfl)
theorem dX5_variable_12 : decode cX5_variable 12 = .ok (.ifCond .lt 7, 3) := dk_155 0 7 (dk_at dksX5_variable_0 12 rfl rfl)
theorem dX5_variable_15 : decode cX5_variable 15 = .ok (.iconst 1, 1) := dk_4 (dk_at dksX5_variable_0 15 rfl rfl)
theorem dX5_variable_16 : decode cX5_variable 16 = .ok (.goto 4, 3) := dk_167 0 4 (dk_at dksX5_variable_0 16 rfl rfl)
theorem dX5_variable_19 : decode cX5_variable 19 = .ok (.iconst 0, 1) := dk_3 (dk_at dksX5_variable_0 19 rfl rfl)
theorem dX5_variable_20 : decode cX5_variable 20 = .ok (.invokevirtual 53, 3) := dk_182 0 53 (dk_at dksX5_variable_0 20 rfl rfl)
theorem dX5_variable_23 : decode cX5_variable 23 = .ok (.aload_n 0, 1) := dk_42 (dk_at dksX5_variable_0 23 rfl rfl)
theorem dX5_variable_24 : decode cX5_variable 24 = .ok (.dup, 1) := dk_89 (dk_at dksX5_variable_1 0 rfl rfl)
theorem dX5_variable_25 : decode cX5_variable 25 = .ok (.getfield 26, 3) := dk_180 0 26 (dk_at dksX5_variable_1 1 rfl rfl)
theorem dX5_variable_28 : decode cX5_variable 28 = .ok (.iconst 1, 1) := dk_4 (dk_at dksX5_variable_1 4 rfl rfl)
theorem dX5_variable_29 : decode cX5_variable 29 = .ok (.iadd, 1) := dk_96 (dk_at dksX5_variable_1 5 rfl rfl)
theorem dX5_variable_30 : decode cX5_variable 30 = .ok (.putfield 26, 3) := dk_181 0 26 (dk_at dksX5_variable_1 6 rfl rfl)
theorem dX5_variable_33 : decode cX5_variable 33 = .ok (.iload_n 1, 1) := dk_27 (dk_at dksX5_variable_1 9 rfl rfl)
theorem dX5_variable_34 : decode cX5_variable 34 = .ok (.iconst 4, 1) := dk_7 (dk_at dksX5_variable_1 10 rfl rfl)
theorem dX5_variable_35 : decode cX5_variable 35 = .ok (.if_icmp .ge 7, 3) := dk_162 0 7 (dk_at dksX5_variable_1 11 rfl rfl)
theorem dX5_variable_38 : decode cX5_variable 38 = .ok (.iload_n 1, 1) := dk_27 (dk_at dksX5_variable_1 14 rfl rfl)
theorem dX5_variable_39 : decode cX5_variable 39 = .ok (.goto 13, 3) := dk_167 0 13 (dk_at dksX5_variable_1 15 rfl rfl)
theorem dX5_variable_42 : decode cX5_variable 42 = .ok (.aload_n 0, 1) := dk_42 (dk_at dksX5_variable_1 18 rfl rfl)
theorem dX5_variable_43 : decode cX5_variable 43 = .ok (.getfield 22, 3) := dk_180 0 22 (dk_at dksX5_variable_1 19 rfl rfl)
theorem dX5_variable_46 : decode cX5_variable 46 = .ok (.iload_n 1, 1) := dk_27 (dk_at dksX5_variable_1 22 rfl rfl)
theorem dX5_variable_47 : decode cX5_variable 47 = .ok (.iconst 4, 1) := dk_7 (dk_at dksX5_variable_1 23 rfl rfl)
theorem dX5_variable_48 : decode cX5_variable 48 = .ok (.isub, 1) := dk_100 (dk_at dksX5_variable_2 0 rfl rfl)
theorem dX5_variable_49 : decode cX5_variable 49 = .ok (.invokestatic 57, 3) := dk_184 0 57 (dk_at dksX5_variable_2 1 rfl rfl)
theorem dX5_variable_52 : decode cX5_variable 52 = .ok (.ireturn, 1) := dk_172 (dk_at dksX5_variable_2 4 rfl rfl)
abbrev cX5_must : ByteArray := prog_14_method_4_code
def yX5_must : MethodName := ⟨RX5, "must", "(Z)V"⟩
def dkwX5_must_0 : List UInt8 := [27, 154, 0, 15, 187, 0, 40, 89, 42, 180, 0, 26, 183, 0, 42, 191, 177]
abbrev dktX5_must_0 : List UInt8 := dkwX5_must_0 ++ []
theorem dksX5_must_0 : cX5_must.data.toList.drop 0 = dktX5_must_0 := by decide +kernel
theorem dX5_must_0 : decode cX5_must 0 = .ok (.iload_n 1, 1) := dk_27 (dk_at dksX5_must_0 0 rfl rfl)
theorem dX5_must_1 : decode cX5_must 1 = .ok (.ifCond .ne 15, 3) := dk_154 0 15 (dk_at dksX5_must_0 1 rfl rfl)
theorem dX5_must_4 : decode cX5_must 4 = .ok (.new 40, 3) := dk_187 0 40 (dk_at dksX5_must_0 4 rfl rfl)
theorem dX5_must_7 : decode cX5_must 7 = .ok (.dup, 1) := dk_89 (dk_at dksX5_must_0 7 rfl rfl)
theorem dX5_must_8 : decode cX5_must 8 = .ok (.aload_n 0, 1) := dk_42 (dk_at dksX5_must_0 8 rfl rfl)
theorem dX5_must_9 : decode cX5_must 9 = .ok (.getfield 26, 3) := dk_180 0 26 (dk_at dksX5_must_0 9 rfl rfl)
theorem dX5_must_12 : decode cX5_must 12 = .ok (.invokespecial 42, 3) := dk_183 0 42 (dk_at dksX5_must_0 12 rfl rfl)
theorem dX5_must_15 : decode cX5_must 15 = .ok (.athrow, 1) := dk_191 (dk_at dksX5_must_0 15 rfl rfl)
theorem dX5_must_16 : decode cX5_must 16 = .ok (.return_, 1) := dk_177 (dk_at dksX5_must_0 16 rfl rfl)
abbrev cX5_digit : ByteArray := prog_14_method_6_code
def yX5_digit : MethodName := ⟨RX5, "digit", "(I)I"⟩
def dkwX5_digit_1 : List UInt8 := [181, 0, 26, 42, 180, 0, 3, 180, 0, 32, 42, 180, 0, 26, 4, 100, 52, 16, 48, 100, 172]
abbrev dktX5_digit_1 : List UInt8 := dkwX5_digit_1 ++ []
def dkwX5_digit_0 : List UInt8 := [42, 42, 182, 0, 36, 16, 48, 16, 48, 27, 96, 184, 0, 61, 182, 0, 53, 42, 89, 180, 0, 26, 4, 96]
abbrev dktX5_digit_0 : List UInt8 := dkwX5_digit_0 ++ dktX5_digit_1
theorem dksX5_digit_0 : cX5_digit.data.toList.drop 0 = dktX5_digit_0 := by decide +kernel
theorem dksX5_digit_1 : cX5_digit.data.toList.drop 24 = dktX5_digit_1 := dk_seg dksX5_digit_0 24 rfl rfl
theorem dX5_digit_0 : decode cX5_digit 0 = .ok (.aload_n 0, 1) := dk_42 (dk_at dksX5_digit_0 0 rfl rfl)
theorem dX5_digit_1 : decode cX5_digit 1 = .ok (.aload_n 0, 1) := dk_42 (dk_at dksX5_digit_0 1 rfl rfl)
theorem dX5_digit_2 : decode cX5_digit 2 = .ok (.invokevirtual 36, 3) := dk_182 0 36 (dk_at dksX5_digit_0 2 rfl rfl)
theorem dX5_digit_5 : decode cX5_digit 5 = .ok (.bipush 48, 2) := dk_16 48 (dk_at dksX5_digit_0 5 rfl rfl)
theorem dX5_digit_7 : decode cX5_digit 7 = .ok (.bipush 48, 2) := dk_16 48 (dk_at dksX5_digit_0 7 rfl rfl)
theorem dX5_digit_9 : decode cX5_digit 9 = .ok (.iload_n 1, 1) := dk_27 (dk_at dksX5_digit_0 9 rfl rfl)
theorem dX5_digit_10 : decode cX5_digit 10 = .ok (.iadd, 1) := dk_96 (dk_at dksX5_digit_0 10 rfl rfl)
theorem dX5_digit_11 : decode cX5_digit 11 = .ok (.invokestatic 61, 3) := dk_184 0 61 (dk_at dksX5_digit_0 11 rfl rfl)
theorem dX5_digit_14 : decode cX5_digit 14 = .ok (.invokevirtual 53, 3) := dk_182 0 53 (dk_at dksX5_digit_0 14 rfl rfl)
theorem dX5_digit_17 : decode cX5_digit 17 = .ok (.aload_n 0, 1) := dk_42 (dk_at dksX5_digit_0 17 rfl rfl)
theorem dX5_digit_18 : decode cX5_digit 18 = .ok (.dup, 1) := dk_89 (dk_at dksX5_digit_0 18 rfl rfl)
theorem dX5_digit_19 : decode cX5_digit 19 = .ok (.getfield 26, 3) := dk_180 0 26 (dk_at dksX5_digit_0 19 rfl rfl)
theorem dX5_digit_22 : decode cX5_digit 22 = .ok (.iconst 1, 1) := dk_4 (dk_at dksX5_digit_0 22 rfl rfl)
theorem dX5_digit_23 : decode cX5_digit 23 = .ok (.iadd, 1) := dk_96 (dk_at dksX5_digit_0 23 rfl rfl)
theorem dX5_digit_24 : decode cX5_digit 24 = .ok (.putfield 26, 3) := dk_181 0 26 (dk_at dksX5_digit_1 0 rfl rfl)
theorem dX5_digit_27 : decode cX5_digit 27 = .ok (.aload_n 0, 1) := dk_42 (dk_at dksX5_digit_1 3 rfl rfl)
theorem dX5_digit_28 : decode cX5_digit 28 = .ok (.getfield 3, 3) := dk_180 0 3 (dk_at dksX5_digit_1 4 rfl rfl)
theorem dX5_digit_31 : decode cX5_digit 31 = .ok (.getfield 32, 3) := dk_180 0 32 (dk_at dksX5_digit_1 7 rfl rfl)
theorem dX5_digit_34 : decode cX5_digit 34 = .ok (.aload_n 0, 1) := dk_42 (dk_at dksX5_digit_1 10 rfl rfl)
theorem dX5_digit_35 : decode cX5_digit 35 = .ok (.getfield 26, 3) := dk_180 0 26 (dk_at dksX5_digit_1 11 rfl rfl)
theorem dX5_digit_38 : decode cX5_digit 38 = .ok (.iconst 1, 1) := dk_4 (dk_at dksX5_digit_1 14 rfl rfl)
theorem dX5_digit_39 : decode cX5_digit 39 = .ok (.isub, 1) := dk_100 (dk_at dksX5_digit_1 15 rfl rfl)
theorem dX5_digit_40 : decode cX5_digit 40 = .ok (.caload, 1) := dk_52 (dk_at dksX5_digit_1 16 rfl rfl)
theorem dX5_digit_41 : decode cX5_digit 41 = .ok (.bipush 48, 2) := dk_16 48 (dk_at dksX5_digit_1 17 rfl rfl)
theorem dX5_digit_43 : decode cX5_digit 43 = .ok (.isub, 1) := dk_100 (dk_at dksX5_digit_1 19 rfl rfl)
theorem dX5_digit_44 : decode cX5_digit 44 = .ok (.ireturn, 1) := dk_172 (dk_at dksX5_digit_1 20 rfl rfl)
theorem q165 : (Jvm.Cond.initialized "PointerAnalyzer$Reader") ∈ lw_all := lw_g (lw_at lw_m1 43 rfl) rfl
theorem q351 : (Jvm.Cond.selects "PointerAnalyzer$Reader" ({ cls := "java/lang/Object", name := "getClass", desc := "()Ljava/lang/Class;" } : Jvm.MethodName) ({ cls := "java/lang/Object", name := "getClass", desc := "()Ljava/lang/Class;" } : Jvm.MethodName)) ∈ lw_all := lw_g (lw_at lw_m1 229 rfl) rfl
theorem q774 : (Jvm.Cond.selects "PointerAnalyzer$Reader" ({ cls := "java/lang/Object", name := "equals", desc := "(Ljava/lang/Object;)Z" } : Jvm.MethodName) ({ cls := "java/lang/Object", name := "equals", desc := "(Ljava/lang/Object;)Z" } : Jvm.MethodName)) ∈ lw_all := lw_g (lw_at lw_m3 172 rfl) rfl
theorem q1249 : (Jvm.Cond.fieldLinkNest "PointerAnalyzer$Reader" (32 : Nat) "PointerAnalyzer" "text" "[C" "PointerAnalyzer") ∈ lw_tbl := lw_at lw_m5 167 rfl
theorem q1251 : (Jvm.Cond.fieldLinkNest "PointerAnalyzer$Reader" (29 : Nat) "PointerAnalyzer" "textLength" "I" "PointerAnalyzer") ∈ lw_tbl := lw_at lw_m5 169 rfl
theorem q2465 : (Jvm.Cond.instantiable "PointerAnalyzer$Reader" (4 : Nat)) ∈ lw_all := lw_g (lw_at lw_m10 183 rfl) rfl
theorem q2467 : (Jvm.Cond.instanceMethod ({ cls := "PointerAnalyzer$Reader", name := "<init>", desc := "(LPointerAnalyzer;I)V" } : Jvm.MethodName)) ∈ lw_all := lw_g (lw_at lw_m10 185 rfl) rfl
theorem q2468 : (Jvm.Cond.code ({ cls := "PointerAnalyzer$Reader", name := "<init>", desc := "(LPointerAnalyzer;I)V" } : Jvm.MethodName) prog_14_method_1_code (3 : Nat) (Option.none : Option Jvm.ClassFile.FieldType)) ∈ lw_all := lw_g (lw_at lw_m10 186 rfl) rfl
theorem q2469 : (Jvm.Cond.methodLink "PointerAnalyzer$Reader" (9 : Nat) ({ cls := "java/lang/Object", name := "<init>", desc := "()V" } : Jvm.MethodName)) ∈ lw_all := lw_g (lw_at lw_m10 187 rfl) rfl
theorem q2470 : (Jvm.Cond.classLink "PointerAnalyzer$Reader" (15 : Nat) "java/util/ArrayList") ∈ lw_all := lw_g (lw_at lw_m10 188 rfl) rfl
theorem q2471 : (Jvm.Cond.methodLink "PointerAnalyzer$Reader" (17 : Nat) ({ cls := "java/util/ArrayList", name := "<init>", desc := "()V" } : Jvm.MethodName)) ∈ lw_all := lw_g (lw_at lw_m10 189 rfl) rfl
theorem q2472 : (Jvm.Cond.fieldLink "PointerAnalyzer$Reader" (22 : Nat) "PointerAnalyzer$Reader" "function" "I") ∈ lw_all := lw_g (lw_at lw_m10 190 rfl) rfl
theorem q2473 : (Jvm.Cond.fieldLink "PointerAnalyzer$Reader" (18 : Nat) "PointerAnalyzer$Reader" "lines" "Ljava/util/ArrayList;") ∈ lw_all := lw_g (lw_at lw_m10 191 rfl) rfl
theorem q2475 : (Jvm.Cond.fieldLink "PointerAnalyzer$Reader" (26 : Nat) "PointerAnalyzer$Reader" "at" "I") ∈ lw_all := lw_g (lw_at lw_m10 193 rfl) rfl
theorem q2476 : (Jvm.Cond.fieldLink "PointerAnalyzer$Reader" (3 : Nat) "PointerAnalyzer$Reader" "this$0" "LPointerAnalyzer;") ∈ lw_all := lw_g (lw_at lw_m10 194 rfl) rfl
theorem q2477 : (Jvm.Cond.laysFinal "PointerAnalyzer$Reader" "PointerAnalyzer$Reader" "function" "I") ∈ lw_all := lw_g (lw_at lw_m10 195 rfl) rfl
theorem q2478 : (Jvm.Cond.soleField "PointerAnalyzer$Reader" "function") ∈ lw_all := lw_g (lw_at lw_m10 196 rfl) rfl
theorem q2479 : (Jvm.Cond.laysFinal "PointerAnalyzer$Reader" "PointerAnalyzer$Reader" "lines" "Ljava/util/ArrayList;") ∈ lw_all := lw_g (lw_at lw_m10 197 rfl) rfl
theorem q2480 : (Jvm.Cond.soleField "PointerAnalyzer$Reader" "lines") ∈ lw_all := lw_g (lw_at lw_m10 198 rfl) rfl
theorem q2481 : (Jvm.Cond.lays "PointerAnalyzer$Reader" "PointerAnalyzer$Reader" "at" "I") ∈ lw_all := lw_g (lw_at lw_m10 199 rfl) rfl
theorem q2482 : (Jvm.Cond.soleField "PointerAnalyzer$Reader" "at") ∈ lw_all := lw_g (lw_at lw_m10 200 rfl) rfl
theorem q2483 : (Jvm.Cond.laysFinal "PointerAnalyzer$Reader" "PointerAnalyzer$Reader" "this$0" "LPointerAnalyzer;") ∈ lw_all := lw_g (lw_at lw_m10 201 rfl) rfl
theorem q2484 : (Jvm.Cond.soleField "PointerAnalyzer$Reader" "this$0") ∈ lw_all := lw_g (lw_at lw_m10 202 rfl) rfl
theorem q2485 : (Jvm.Cond.superclass "PointerAnalyzer$Reader" "java/lang/Object") ∈ lw_all := lw_g (lw_at lw_m10 203 rfl) rfl
theorem q2487 : (Jvm.Cond.instanceMethod ({ cls := "PointerAnalyzer$Reader", name := "body", desc := "()V" } : Jvm.MethodName)) ∈ lw_all := lw_g (lw_at lw_m10 205 rfl) rfl
theorem q2488 : (Jvm.Cond.selects "PointerAnalyzer$Reader" ({ cls := "PointerAnalyzer$Reader", name := "body", desc := "()V" } : Jvm.MethodName) ({ cls := "PointerAnalyzer$Reader", name := "body", desc := "()V" } : Jvm.MethodName)) ∈ lw_all := lw_g (lw_at lw_m10 206 rfl) rfl
theorem q2489 : (Jvm.Cond.code ({ cls := "PointerAnalyzer$Reader", name := "body", desc := "()V" } : Jvm.MethodName) prog_14_method_9_code (1 : Nat) (Option.none : Option Jvm.ClassFile.FieldType)) ∈ lw_all := lw_g (lw_at lw_m10 207 rfl) rfl
theorem q2490 : (Jvm.Cond.methodLink "PointerAnalyzer$Reader" (109 : Nat) ({ cls := "PointerAnalyzer$Reader", name := "statement", desc := "()LPointerAnalyzer$Line;" } : Jvm.MethodName)) ∈ lw_all := lw_g (lw_at lw_m10 208 rfl) rfl
theorem q2491 : (Jvm.Cond.privateMethod ({ cls := "PointerAnalyzer$Reader", name := "statement", desc := "()LPointerAnalyzer$Line;" } : Jvm.MethodName)) ∈ lw_tbl := lw_at lw_m10 209 rfl
theorem q2492 : (Jvm.Cond.instanceMethod ({ cls := "PointerAnalyzer$Reader", name := "statement", desc := "()LPointerAnalyzer$Line;" } : Jvm.MethodName)) ∈ lw_all := lw_g (lw_at lw_m10 210 rfl) rfl
theorem q2493 : (Jvm.Cond.code ({ cls := "PointerAnalyzer$Reader", name := "statement", desc := "()LPointerAnalyzer$Line;" } : Jvm.MethodName) prog_14_method_8_code (2 : Nat) (Option.some (Jvm.ClassFile.FieldType.object "PointerAnalyzer$Line"))) ∈ lw_all := lw_g (lw_at lw_m10 211 rfl) rfl
theorem q2494 : (Jvm.Cond.methodLink "PointerAnalyzer$Reader" (69 : Nat) ({ cls := "PointerAnalyzer$Reader", name := "passes", desc := "(C)Z" } : Jvm.MethodName)) ∈ lw_all := lw_g (lw_at lw_m10 212 rfl) rfl
theorem q2495 : (Jvm.Cond.privateMethod ({ cls := "PointerAnalyzer$Reader", name := "passes", desc := "(C)Z" } : Jvm.MethodName)) ∈ lw_tbl := lw_at lw_m10 213 rfl
theorem q2496 : (Jvm.Cond.instanceMethod ({ cls := "PointerAnalyzer$Reader", name := "passes", desc := "(C)Z" } : Jvm.MethodName)) ∈ lw_all := lw_g (lw_at lw_m10 214 rfl) rfl
theorem q2497 : (Jvm.Cond.code ({ cls := "PointerAnalyzer$Reader", name := "passes", desc := "(C)Z" } : Jvm.MethodName) prog_14_method_3_code (3 : Nat) (Option.some Jvm.ClassFile.FieldType.boolean)) ∈ lw_all := lw_g (lw_at lw_m10 215 rfl) rfl
theorem q2498 : (Jvm.Cond.methodLink "PointerAnalyzer$Reader" (36 : Nat) ({ cls := "PointerAnalyzer$Reader", name := "here", desc := "()C" } : Jvm.MethodName)) ∈ lw_all := lw_g (lw_at lw_m10 216 rfl) rfl
theorem q2499 : (Jvm.Cond.privateMethod ({ cls := "PointerAnalyzer$Reader", name := "here", desc := "()C" } : Jvm.MethodName)) ∈ lw_tbl := lw_at lw_m10 217 rfl
theorem q2500 : (Jvm.Cond.instanceMethod ({ cls := "PointerAnalyzer$Reader", name := "here", desc := "()C" } : Jvm.MethodName)) ∈ lw_all := lw_g (lw_at lw_m10 218 rfl) rfl
theorem q2501 : (Jvm.Cond.code ({ cls := "PointerAnalyzer$Reader", name := "here", desc := "()C" } : Jvm.MethodName) prog_14_method_2_code (1 : Nat) (Option.some Jvm.ClassFile.FieldType.char)) ∈ lw_all := lw_g (lw_at lw_m10 219 rfl) rfl
theorem q2502 : (Jvm.Cond.methodLink "PointerAnalyzer$Reader" (102 : Nat) ({ cls := "PointerAnalyzer$Reader", name := "assignment", desc := "()LPointerAnalyzer$Line;" } : Jvm.MethodName)) ∈ lw_all := lw_g (lw_at lw_m10 220 rfl) rfl
theorem q2503 : (Jvm.Cond.privateMethod ({ cls := "PointerAnalyzer$Reader", name := "assignment", desc := "()LPointerAnalyzer$Line;" } : Jvm.MethodName)) ∈ lw_tbl := lw_at lw_m10 221 rfl
theorem q2504 : (Jvm.Cond.instanceMethod ({ cls := "PointerAnalyzer$Reader", name := "assignment", desc := "()LPointerAnalyzer$Line;" } : Jvm.MethodName)) ∈ lw_all := lw_g (lw_at lw_m10 222 rfl) rfl
theorem q2505 : (Jvm.Cond.code ({ cls := "PointerAnalyzer$Reader", name := "assignment", desc := "()LPointerAnalyzer$Line;" } : Jvm.MethodName) prog_14_method_7_code (4 : Nat) (Option.some (Jvm.ClassFile.FieldType.object "PointerAnalyzer$Line"))) ∈ lw_all := lw_g (lw_at lw_m10 223 rfl) rfl
theorem q2506 : (Jvm.Cond.methodLink "PointerAnalyzer$Reader" (65 : Nat) ({ cls := "PointerAnalyzer$Reader", name := "variable", desc := "()I" } : Jvm.MethodName)) ∈ lw_all := lw_g (lw_at lw_m10 224 rfl) rfl
theorem q2507 : (Jvm.Cond.privateMethod ({ cls := "PointerAnalyzer$Reader", name := "variable", desc := "()I" } : Jvm.MethodName)) ∈ lw_tbl := lw_at lw_m10 225 rfl
theorem q2508 : (Jvm.Cond.instanceMethod ({ cls := "PointerAnalyzer$Reader", name := "variable", desc := "()I" } : Jvm.MethodName)) ∈ lw_all := lw_g (lw_at lw_m10 226 rfl) rfl
theorem q2509 : (Jvm.Cond.code ({ cls := "PointerAnalyzer$Reader", name := "variable", desc := "()I" } : Jvm.MethodName) prog_14_method_5_code (2 : Nat) (Option.some Jvm.ClassFile.FieldType.int)) ∈ lw_all := lw_g (lw_at lw_m10 227 rfl) rfl
theorem q2510 : (Jvm.Cond.stringRef "PointerAnalyzer$Reader" (45 : Nat) "abcdprxy") ∈ lw_tbl := lw_at lw_m10 228 rfl
theorem q2511 : (Jvm.Cond.methodLink "PointerAnalyzer$Reader" (47 : Nat) ({ cls := "java/lang/String", name := "indexOf", desc := "(I)I" } : Jvm.MethodName)) ∈ lw_all := lw_g (lw_at lw_m10 229 rfl) rfl
theorem q2559 : (Jvm.Cond.methodLink "PointerAnalyzer$Reader" (53 : Nat) ({ cls := "PointerAnalyzer$Reader", name := "must", desc := "(Z)V" } : Jvm.MethodName)) ∈ lw_all := lw_g (lw_at lw_m11 37 rfl) rfl
theorem q2560 : (Jvm.Cond.privateMethod ({ cls := "PointerAnalyzer$Reader", name := "must", desc := "(Z)V" } : Jvm.MethodName)) ∈ lw_tbl := lw_at lw_m11 38 rfl
theorem q2561 : (Jvm.Cond.instanceMethod ({ cls := "PointerAnalyzer$Reader", name := "must", desc := "(Z)V" } : Jvm.MethodName)) ∈ lw_all := lw_g (lw_at lw_m11 39 rfl) rfl
theorem q2562 : (Jvm.Cond.code ({ cls := "PointerAnalyzer$Reader", name := "must", desc := "(Z)V" } : Jvm.MethodName) prog_14_method_4_code (2 : Nat) (Option.none : Option Jvm.ClassFile.FieldType)) ∈ lw_all := lw_g (lw_at lw_m11 40 rfl) rfl
theorem q2563 : (Jvm.Cond.classLink "PointerAnalyzer$Reader" (40 : Nat) "PointerAnalyzer$FaultException") ∈ lw_all := lw_g (lw_at lw_m11 41 rfl) rfl
theorem q2572 : (Jvm.Cond.methodLink "PointerAnalyzer$Reader" (42 : Nat) ({ cls := "PointerAnalyzer$FaultException", name := "<init>", desc := "(I)V" } : Jvm.MethodName)) ∈ lw_all := lw_g (lw_at lw_m11 50 rfl) rfl
theorem q2582 : (Jvm.Cond.methodLinkNest "PointerAnalyzer$Reader" (57 : Nat) ({ cls := "PointerAnalyzer", name := "local", desc := "(II)I" } : Jvm.MethodName) "PointerAnalyzer") ∈ lw_tbl := lw_at lw_m11 60 rfl
theorem q2583 : (Jvm.Cond.classLink "PointerAnalyzer$Reader" (73 : Nat) "PointerAnalyzer$Line") ∈ lw_all := lw_g (lw_at lw_m11 61 rfl) rfl
theorem q2585 : (Jvm.Cond.fieldLink "PointerAnalyzer$Reader" (75 : Nat) "PointerAnalyzer$Kind" "ADDRESS" "LPointerAnalyzer$Kind;") ∈ lw_all := lw_g (lw_at lw_m11 63 rfl) rfl
theorem q2587 : (Jvm.Cond.methodLink "PointerAnalyzer$Reader" (81 : Nat) ({ cls := "PointerAnalyzer$Line", name := "<init>", desc := "(LPointerAnalyzer$Kind;III)V" } : Jvm.MethodName)) ∈ lw_all := lw_g (lw_at lw_m11 65 rfl) rfl
theorem q2628 : (Jvm.Cond.fieldLink "PointerAnalyzer$Reader" (84 : Nat) "PointerAnalyzer$Kind" "LOAD" "LPointerAnalyzer$Kind;") ∈ lw_all := lw_g (lw_at lw_m11 106 rfl) rfl
theorem q2630 : (Jvm.Cond.fieldLink "PointerAnalyzer$Reader" (87 : Nat) "PointerAnalyzer$Kind" "ALLOCATION" "LPointerAnalyzer$Kind;") ∈ lw_all := lw_g (lw_at lw_m11 108 rfl) rfl
theorem q2631 : (Jvm.Cond.methodLink "PointerAnalyzer$Reader" (90 : Nat) ({ cls := "PointerAnalyzer$Reader", name := "digit", desc := "(I)I" } : Jvm.MethodName)) ∈ lw_all := lw_g (lw_at lw_m11 109 rfl) rfl
theorem q2632 : (Jvm.Cond.privateMethod ({ cls := "PointerAnalyzer$Reader", name := "digit", desc := "(I)I" } : Jvm.MethodName)) ∈ lw_tbl := lw_at lw_m11 110 rfl
theorem q2633 : (Jvm.Cond.instanceMethod ({ cls := "PointerAnalyzer$Reader", name := "digit", desc := "(I)I" } : Jvm.MethodName)) ∈ lw_all := lw_g (lw_at lw_m11 111 rfl) rfl
theorem q2634 : (Jvm.Cond.code ({ cls := "PointerAnalyzer$Reader", name := "digit", desc := "(I)I" } : Jvm.MethodName) prog_14_method_6_code (2 : Nat) (Option.some Jvm.ClassFile.FieldType.int)) ∈ lw_all := lw_g (lw_at lw_m11 112 rfl) rfl
theorem q2635 : (Jvm.Cond.methodLinkNest "PointerAnalyzer$Reader" (61 : Nat) ({ cls := "PointerAnalyzer", name := "isBetween", desc := "(III)Z" } : Jvm.MethodName) "PointerAnalyzer") ∈ lw_tbl := lw_at lw_m11 113 rfl
theorem q2636 : (Jvm.Cond.fieldLink "PointerAnalyzer$Reader" (93 : Nat) "PointerAnalyzer$Kind" "CALL" "LPointerAnalyzer$Kind;") ∈ lw_all := lw_g (lw_at lw_m11 114 rfl) rfl
theorem q2637 : (Jvm.Cond.fieldLink "PointerAnalyzer$Reader" (96 : Nat) "PointerAnalyzer$Kind" "OFFSET" "LPointerAnalyzer$Kind;") ∈ lw_all := lw_g (lw_at lw_m11 115 rfl) rfl
theorem q2639 : (Jvm.Cond.fieldLink "PointerAnalyzer$Reader" (99 : Nat) "PointerAnalyzer$Kind" "COPY" "LPointerAnalyzer$Kind;") ∈ lw_all := lw_g (lw_at lw_m11 117 rfl) rfl
theorem q2641 : (Jvm.Cond.fieldLink "PointerAnalyzer$Reader" (106 : Nat) "PointerAnalyzer$Kind" "STORE" "LPointerAnalyzer$Kind;") ∈ lw_all := lw_g (lw_at lw_m11 119 rfl) rfl
theorem q2643 : (Jvm.Cond.methodLink "PointerAnalyzer$Reader" (112 : Nat) ({ cls := "java/util/ArrayList", name := "add", desc := "(Ljava/lang/Object;)Z" } : Jvm.MethodName)) ∈ lw_all := lw_g (lw_at lw_m11 121 rfl) rfl
theorem q3479 : (Jvm.Cond.castable "PointerAnalyzer$Reader" "java/lang/Object") ∈ lw_tbl := lw_at lw_m14 237 rfl
theorem in_X5 : ∀ w ∈ wsX50, w ∈ lw_all := lw_in wsX50 [2477, 2479, 2481, 2483] (by decide +kernel) (by decide +kernel)

/-! PointerAnalyzer$FaultException -/
set_option maxRecDepth 100000
def RX6 : String := "PointerAnalyzer$FaultException"
def TX6 : u_T := fun k => match k with
  | 0 => ("java/lang/Throwable", "cause", "Ljava/lang/Throwable;", false)
  | 1 => ("java/lang/Throwable", "stackTrace", "[Ljava/lang/StackTraceElement;", false)
  | 2 => ("java/lang/Throwable", "suppressedExceptions", "Ljava/util/List;", false)
  | 3 => ("java/lang/Throwable", "detailMessage", "Ljava/lang/String;", false)
  | 4 => ("java/lang/Throwable", "backtrace", "Ljava/lang/Object;", false)
  | 5 => ("java/lang/Throwable", "depth", "I", false)
  | _ => ("PointerAnalyzer$FaultException", "position", "I", true)
def tyX6 : Nat → FieldType := fun k => match k with
  | 0 => .object "java/lang/Throwable"
  | 1 => .array (.object "java/lang/StackTraceElement")
  | 2 => .object "java/util/List"
  | 3 => .object "java/lang/String"
  | 4 => .object "java/lang/Object"
  | 5 => .int
  | _ => .int
abbrev wsX60 : List Cond := u_ws RX6 TX6 7
theorem nmX6 : ∀ a, a < 7 → ∀ b, b < 7 → a ≠ b → (TX6 a).2.1 ≠ (TX6 b).2.1 := by decide +kernel
theorem tyX6_ok : ∀ k, k < 7 → parseFieldDescriptor (TX6 k).2.2.1 = some (tyX6 k) := by decide +kernel
abbrev cX6_init : ByteArray := prog_6_method_1_code
def yX6_init : MethodName := ⟨RX6, "<init>", "(I)V"⟩
def dkwX6_init_0 : List UInt8 := [42, 1, 1, 3, 3, 183, 0, 1, 42, 27, 181, 0, 7, 177]
abbrev dktX6_init_0 : List UInt8 := dkwX6_init_0 ++ []
theorem dksX6_init_0 : cX6_init.data.toList.drop 0 = dktX6_init_0 := by decide +kernel
theorem dX6_init_0 : decode cX6_init 0 = .ok (.aload_n 0, 1) := dk_42 (dk_at dksX6_init_0 0 rfl rfl)
theorem dX6_init_1 : decode cX6_init 1 = .ok (.aconst_null, 1) := dk_1 (dk_at dksX6_init_0 1 rfl rfl)
theorem dX6_init_2 : decode cX6_init 2 = .ok (.aconst_null, 1) := dk_1 (dk_at dksX6_init_0 2 rfl rfl)
theorem dX6_init_3 : decode cX6_init 3 = .ok (.iconst 0, 1) := dk_3 (dk_at dksX6_init_0 3 rfl rfl)
theorem dX6_init_4 : decode cX6_init 4 = .ok (.iconst 0, 1) := dk_3 (dk_at dksX6_init_0 4 rfl rfl)
theorem dX6_init_5 : decode cX6_init 5 = .ok (.invokespecial 1, 3) := dk_183 0 1 (dk_at dksX6_init_0 5 rfl rfl)
theorem dX6_init_8 : decode cX6_init 8 = .ok (.aload_n 0, 1) := dk_42 (dk_at dksX6_init_0 8 rfl rfl)
theorem dX6_init_9 : decode cX6_init 9 = .ok (.iload_n 1, 1) := dk_27 (dk_at dksX6_init_0 9 rfl rfl)
theorem dX6_init_10 : decode cX6_init 10 = .ok (.putfield 7, 3) := dk_181 0 7 (dk_at dksX6_init_0 10 rfl rfl)
theorem dX6_init_13 : decode cX6_init 13 = .ok (.return_, 1) := dk_177 (dk_at dksX6_init_0 13 rfl rfl)
theorem q167 : (Jvm.Cond.initialized "PointerAnalyzer$FaultException") ∈ lw_all := lw_g (lw_at lw_m1 45 rfl) rfl
theorem q343 : (Jvm.Cond.selects "PointerAnalyzer$FaultException" ({ cls := "java/lang/Object", name := "getClass", desc := "()Ljava/lang/Class;" } : Jvm.MethodName) ({ cls := "java/lang/Object", name := "getClass", desc := "()Ljava/lang/Class;" } : Jvm.MethodName)) ∈ lw_all := lw_g (lw_at lw_m1 221 rfl) rfl
theorem q764 : (Jvm.Cond.selects "PointerAnalyzer$FaultException" ({ cls := "java/lang/Object", name := "equals", desc := "(Ljava/lang/Object;)Z" } : Jvm.MethodName) ({ cls := "java/lang/Object", name := "equals", desc := "(Ljava/lang/Object;)Z" } : Jvm.MethodName)) ∈ lw_all := lw_g (lw_at lw_m3 162 rfl) rfl
theorem q980 : (Jvm.Cond.selects "PointerAnalyzer$FaultException" ({ cls := "java/lang/Throwable", name := "fillInStackTrace", desc := "()Ljava/lang/Throwable;" } : Jvm.MethodName) ({ cls := "java/lang/Throwable", name := "fillInStackTrace", desc := "()Ljava/lang/Throwable;" } : Jvm.MethodName)) ∈ lw_all := lw_g (lw_at lw_m4 138 rfl) rfl
theorem q2564 : (Jvm.Cond.instantiable "PointerAnalyzer$FaultException" (7 : Nat)) ∈ lw_all := lw_g (lw_at lw_m11 42 rfl) rfl
theorem q2565 : (Jvm.Cond.castable "PointerAnalyzer$FaultException" "PointerAnalyzer$FaultException") ∈ lw_tbl := lw_at lw_m11 43 rfl
theorem q2566 : (Jvm.Cond.selects "PointerAnalyzer$FaultException" ({ cls := "java/lang/Throwable", name := "fillInStackTrace", desc := "(I)Ljava/lang/Throwable;" } : Jvm.MethodName) ({ cls := "java/lang/Throwable", name := "fillInStackTrace", desc := "(I)Ljava/lang/Throwable;" } : Jvm.MethodName)) ∈ lw_all := lw_g (lw_at lw_m11 44 rfl) rfl
theorem q2567 : (Jvm.Cond.lays "PointerAnalyzer$FaultException" "java/lang/Throwable" "cause" "Ljava/lang/Throwable;") ∈ lw_all := lw_g (lw_at lw_m11 45 rfl) rfl
theorem q2568 : (Jvm.Cond.lays "PointerAnalyzer$FaultException" "java/lang/Throwable" "stackTrace" "[Ljava/lang/StackTraceElement;") ∈ lw_all := lw_g (lw_at lw_m11 46 rfl) rfl
theorem q2569 : (Jvm.Cond.lays "PointerAnalyzer$FaultException" "java/lang/Throwable" "suppressedExceptions" "Ljava/util/List;") ∈ lw_all := lw_g (lw_at lw_m11 47 rfl) rfl
theorem q2570 : (Jvm.Cond.lays "PointerAnalyzer$FaultException" "java/lang/Throwable" "detailMessage" "Ljava/lang/String;") ∈ lw_all := lw_g (lw_at lw_m11 48 rfl) rfl
theorem q2571 : (Jvm.Cond.lays "PointerAnalyzer$FaultException" "java/lang/Throwable" "backtrace" "Ljava/lang/Object;") ∈ lw_all := lw_g (lw_at lw_m11 49 rfl) rfl
theorem q2573 : (Jvm.Cond.instanceMethod ({ cls := "PointerAnalyzer$FaultException", name := "<init>", desc := "(I)V" } : Jvm.MethodName)) ∈ lw_all := lw_g (lw_at lw_m11 51 rfl) rfl
theorem q2574 : (Jvm.Cond.code ({ cls := "PointerAnalyzer$FaultException", name := "<init>", desc := "(I)V" } : Jvm.MethodName) prog_6_method_1_code (2 : Nat) (Option.none : Option Jvm.ClassFile.FieldType)) ∈ lw_all := lw_g (lw_at lw_m11 52 rfl) rfl
theorem q2575 : (Jvm.Cond.methodLink "PointerAnalyzer$FaultException" (1 : Nat) ({ cls := "java/lang/Exception", name := "<init>", desc := "(Ljava/lang/String;Ljava/lang/Throwable;ZZ)V" } : Jvm.MethodName)) ∈ lw_all := lw_g (lw_at lw_m11 53 rfl) rfl
theorem q2576 : (Jvm.Cond.fieldLink "PointerAnalyzer$FaultException" (7 : Nat) "PointerAnalyzer$FaultException" "position" "I") ∈ lw_all := lw_g (lw_at lw_m11 54 rfl) rfl
theorem q2578 : (Jvm.Cond.laysFinal "PointerAnalyzer$FaultException" "PointerAnalyzer$FaultException" "position" "I") ∈ lw_all := lw_g (lw_at lw_m11 56 rfl) rfl
theorem q2579 : (Jvm.Cond.soleField "PointerAnalyzer$FaultException" "position") ∈ lw_all := lw_g (lw_at lw_m11 57 rfl) rfl
theorem q2580 : (Jvm.Cond.lays "PointerAnalyzer$FaultException" "java/lang/Throwable" "depth" "I") ∈ lw_all := lw_g (lw_at lw_m11 58 rfl) rfl
theorem q2581 : (Jvm.Cond.superclass "PointerAnalyzer$FaultException" "java/lang/Exception") ∈ lw_all := lw_g (lw_at lw_m11 59 rfl) rfl
theorem q3480 : (Jvm.Cond.castable "PointerAnalyzer$FaultException" "java/lang/Object") ∈ lw_tbl := lw_at lw_m14 238 rfl
theorem in_X6 : ∀ w ∈ wsX60, w ∈ lw_all := lw_in wsX60 [2567, 2568, 2569, 2570, 2571, 2580, 2578] (by decide +kernel) (by decide +kernel)

/-! PointerAnalyzer$Line -/
set_option maxRecDepth 100000
def RX7 : String := "PointerAnalyzer$Line"
def TX7 : u_T := fun k => match k with
  | 0 => ("PointerAnalyzer$Line", "kind", "LPointerAnalyzer$Kind;", true)
  | 1 => ("PointerAnalyzer$Line", "left", "I", true)
  | 2 => ("PointerAnalyzer$Line", "right", "I", true)
  | _ => ("PointerAnalyzer$Line", "extra", "I", true)
def tyX7 : Nat → FieldType := fun k => match k with
  | 0 => .object "PointerAnalyzer$Kind"
  | 1 => .int
  | 2 => .int
  | _ => .int
abbrev wsX70 : List Cond := u_ws RX7 TX7 4
theorem nmX7 : ∀ a, a < 4 → ∀ b, b < 4 → a ≠ b → (TX7 a).2.1 ≠ (TX7 b).2.1 := by decide +kernel
theorem tyX7_ok : ∀ k, k < 4 → parseFieldDescriptor (TX7 k).2.2.1 = some (tyX7 k) := by decide +kernel
abbrev cX7_init : ByteArray := prog_9_method_1_code
def yX7_init : MethodName := ⟨RX7, "<init>", "(LPointerAnalyzer$Kind;III)V"⟩
def dkwX7_init_1 : List UInt8 := [181, 0, 20, 177]
abbrev dktX7_init_1 : List UInt8 := dkwX7_init_1 ++ []
def dkwX7_init_0 : List UInt8 := [42, 183, 0, 1, 42, 43, 181, 0, 7, 42, 28, 181, 0, 13, 42, 29, 181, 0, 17, 42, 21, 4]
abbrev dktX7_init_0 : List UInt8 := dkwX7_init_0 ++ dktX7_init_1
theorem dksX7_init_0 : cX7_init.data.toList.drop 0 = dktX7_init_0 := by decide +kernel
theorem dksX7_init_1 : cX7_init.data.toList.drop 22 = dktX7_init_1 := dk_seg dksX7_init_0 22 rfl rfl
theorem dX7_init_0 : decode cX7_init 0 = .ok (.aload_n 0, 1) := dk_42 (dk_at dksX7_init_0 0 rfl rfl)
theorem dX7_init_1 : decode cX7_init 1 = .ok (.invokespecial 1, 3) := dk_183 0 1 (dk_at dksX7_init_0 1 rfl rfl)
theorem dX7_init_4 : decode cX7_init 4 = .ok (.aload_n 0, 1) := dk_42 (dk_at dksX7_init_0 4 rfl rfl)
theorem dX7_init_5 : decode cX7_init 5 = .ok (.aload_n 1, 1) := dk_43 (dk_at dksX7_init_0 5 rfl rfl)
theorem dX7_init_6 : decode cX7_init 6 = .ok (.putfield 7, 3) := dk_181 0 7 (dk_at dksX7_init_0 6 rfl rfl)
theorem dX7_init_9 : decode cX7_init 9 = .ok (.aload_n 0, 1) := dk_42 (dk_at dksX7_init_0 9 rfl rfl)
theorem dX7_init_10 : decode cX7_init 10 = .ok (.iload_n 2, 1) := dk_28 (dk_at dksX7_init_0 10 rfl rfl)
theorem dX7_init_11 : decode cX7_init 11 = .ok (.putfield 13, 3) := dk_181 0 13 (dk_at dksX7_init_0 11 rfl rfl)
theorem dX7_init_14 : decode cX7_init 14 = .ok (.aload_n 0, 1) := dk_42 (dk_at dksX7_init_0 14 rfl rfl)
theorem dX7_init_15 : decode cX7_init 15 = .ok (.iload_n 3, 1) := dk_29 (dk_at dksX7_init_0 15 rfl rfl)
theorem dX7_init_16 : decode cX7_init 16 = .ok (.putfield 17, 3) := dk_181 0 17 (dk_at dksX7_init_0 16 rfl rfl)
theorem dX7_init_19 : decode cX7_init 19 = .ok (.aload_n 0, 1) := dk_42 (dk_at dksX7_init_0 19 rfl rfl)
theorem dX7_init_20 : decode cX7_init 20 = .ok (.iload 4, 2) := dk_21 4 (dk_at dksX7_init_0 20 rfl rfl)
theorem dX7_init_22 : decode cX7_init 22 = .ok (.putfield 20, 3) := dk_181 0 20 (dk_at dksX7_init_1 0 rfl rfl)
theorem dX7_init_25 : decode cX7_init 25 = .ok (.return_, 1) := dk_177 (dk_at dksX7_init_1 3 rfl rfl)
theorem q168 : (Jvm.Cond.initialized "PointerAnalyzer$Line") ∈ lw_all := lw_g (lw_at lw_m1 46 rfl) rfl
theorem q346 : (Jvm.Cond.selects "PointerAnalyzer$Line" ({ cls := "java/lang/Object", name := "getClass", desc := "()Ljava/lang/Class;" } : Jvm.MethodName) ({ cls := "java/lang/Object", name := "getClass", desc := "()Ljava/lang/Class;" } : Jvm.MethodName)) ∈ lw_all := lw_g (lw_at lw_m1 224 rfl) rfl
theorem q769 : (Jvm.Cond.selects "PointerAnalyzer$Line" ({ cls := "java/lang/Object", name := "equals", desc := "(Ljava/lang/Object;)Z" } : Jvm.MethodName) ({ cls := "java/lang/Object", name := "equals", desc := "(Ljava/lang/Object;)Z" } : Jvm.MethodName)) ∈ lw_all := lw_g (lw_at lw_m3 167 rfl) rfl
theorem q2584 : (Jvm.Cond.instantiable "PointerAnalyzer$Line" (4 : Nat)) ∈ lw_all := lw_g (lw_at lw_m11 62 rfl) rfl
theorem q2588 : (Jvm.Cond.instanceMethod ({ cls := "PointerAnalyzer$Line", name := "<init>", desc := "(LPointerAnalyzer$Kind;III)V" } : Jvm.MethodName)) ∈ lw_all := lw_g (lw_at lw_m11 66 rfl) rfl
theorem q2589 : (Jvm.Cond.code ({ cls := "PointerAnalyzer$Line", name := "<init>", desc := "(LPointerAnalyzer$Kind;III)V" } : Jvm.MethodName) prog_9_method_1_code (5 : Nat) (Option.none : Option Jvm.ClassFile.FieldType)) ∈ lw_all := lw_g (lw_at lw_m11 67 rfl) rfl
theorem q2590 : (Jvm.Cond.methodLink "PointerAnalyzer$Line" (1 : Nat) ({ cls := "java/lang/Object", name := "<init>", desc := "()V" } : Jvm.MethodName)) ∈ lw_all := lw_g (lw_at lw_m11 68 rfl) rfl
theorem q2591 : (Jvm.Cond.fieldLink "PointerAnalyzer$Line" (7 : Nat) "PointerAnalyzer$Line" "kind" "LPointerAnalyzer$Kind;") ∈ lw_all := lw_g (lw_at lw_m11 69 rfl) rfl
theorem q2599 : (Jvm.Cond.fieldLink "PointerAnalyzer$Line" (13 : Nat) "PointerAnalyzer$Line" "left" "I") ∈ lw_all := lw_g (lw_at lw_m11 77 rfl) rfl
theorem q2605 : (Jvm.Cond.fieldLink "PointerAnalyzer$Line" (17 : Nat) "PointerAnalyzer$Line" "right" "I") ∈ lw_all := lw_g (lw_at lw_m11 83 rfl) rfl
theorem q2611 : (Jvm.Cond.fieldLink "PointerAnalyzer$Line" (20 : Nat) "PointerAnalyzer$Line" "extra" "I") ∈ lw_all := lw_g (lw_at lw_m11 89 rfl) rfl
theorem q2619 : (Jvm.Cond.laysFinal "PointerAnalyzer$Line" "PointerAnalyzer$Line" "kind" "LPointerAnalyzer$Kind;") ∈ lw_all := lw_g (lw_at lw_m11 97 rfl) rfl
theorem q2620 : (Jvm.Cond.soleField "PointerAnalyzer$Line" "kind") ∈ lw_all := lw_g (lw_at lw_m11 98 rfl) rfl
theorem q2621 : (Jvm.Cond.laysFinal "PointerAnalyzer$Line" "PointerAnalyzer$Line" "left" "I") ∈ lw_all := lw_g (lw_at lw_m11 99 rfl) rfl
theorem q2622 : (Jvm.Cond.soleField "PointerAnalyzer$Line" "left") ∈ lw_all := lw_g (lw_at lw_m11 100 rfl) rfl
theorem q2623 : (Jvm.Cond.laysFinal "PointerAnalyzer$Line" "PointerAnalyzer$Line" "right" "I") ∈ lw_all := lw_g (lw_at lw_m11 101 rfl) rfl
theorem q2624 : (Jvm.Cond.soleField "PointerAnalyzer$Line" "right") ∈ lw_all := lw_g (lw_at lw_m11 102 rfl) rfl
theorem q2625 : (Jvm.Cond.laysFinal "PointerAnalyzer$Line" "PointerAnalyzer$Line" "extra" "I") ∈ lw_all := lw_g (lw_at lw_m11 103 rfl) rfl
theorem q2626 : (Jvm.Cond.soleField "PointerAnalyzer$Line" "extra") ∈ lw_all := lw_g (lw_at lw_m11 104 rfl) rfl
theorem q2627 : (Jvm.Cond.superclass "PointerAnalyzer$Line" "java/lang/Object") ∈ lw_all := lw_g (lw_at lw_m11 105 rfl) rfl
theorem q3481 : (Jvm.Cond.castable "PointerAnalyzer$Line" "java/lang/Object") ∈ lw_tbl := lw_at lw_m14 239 rfl
theorem in_X7 : ∀ w ∈ wsX70, w ∈ lw_all := lw_in wsX70 [2619, 2621, 2623, 2625] (by decide +kernel) (by decide +kernel)

/-! PointerAnalyzer$Analysis -/
set_option maxRecDepth 100000
def RX8 : String := "PointerAnalyzer$Analysis"
def TX8 : u_T := fun k => match k with
  | 0 => ("PointerAnalyzer$Analysis", "program", "LPointerAnalyzer$Program;", true)
  | 1 => ("PointerAnalyzer$Analysis", "contexts", "LPointerAnalyzer$Contexts;", true)
  | 2 => ("PointerAnalyzer$Analysis", "cells", "Ljava/util/ArrayList;", true)
  | 3 => ("PointerAnalyzer$Analysis", "firstCells", "[I", true)
  | 4 => ("PointerAnalyzer$Analysis", "firstField", "I", false)
  | _ => ("PointerAnalyzer$Analysis", "waiting", "Ljava/util/PriorityQueue;", true)
def tyX8 : Nat → FieldType := fun k => match k with
  | 0 => .object "PointerAnalyzer$Program"
  | 1 => .object "PointerAnalyzer$Contexts"
  | 2 => .object "java/util/ArrayList"
  | 3 => .array .int
  | 4 => .int
  | _ => .object "java/util/PriorityQueue"
abbrev wsX80 : List Cond := u_ws RX8 TX8 6
theorem nmX8 : ∀ a, a < 6 → ∀ b, b < 6 → a ≠ b → (TX8 a).2.1 ≠ (TX8 b).2.1 := by decide +kernel
theorem tyX8_ok : ∀ k, k < 6 → parseFieldDescriptor (TX8 k).2.2.1 = some (tyX8 k) := by decide +kernel
abbrev cX8_init : ByteArray := prog_2_method_1_code
def yX8_init : MethodName := ⟨RX8, "<init>", "(LPointerAnalyzer$Program;I)V"⟩
def dkwX8_init_9 : List UInt8 := [45, 3, 181, 0, 102, 42, 45, 182, 0, 106, 167, 255, 225, 177]
abbrev dktX8_init_9 : List UInt8 := dkwX8_init_9 ++ []
def dkwX8_init_8 : List UInt8 := [167, 255, 207, 42, 180, 0, 30, 182, 0, 97, 154, 0, 27, 42, 180, 0, 30, 182, 0, 98, 192, 0, 81, 78]
abbrev dktX8_init_8 : List UInt8 := dkwX8_init_8 ++ dktX8_init_9
def dkwX8_init_7 : List UInt8 := [182, 0, 87, 154, 0, 18, 42, 42, 180, 0, 12, 29, 182, 0, 60, 192, 0, 81, 182, 0, 93, 132, 3, 1]
abbrev dktX8_init_7 : List UInt8 := dkwX8_init_7 ++ dktX8_init_8
def dkwX8_init_6 : List UInt8 := [180, 0, 12, 182, 0, 56, 162, 0, 44, 42, 180, 0, 12, 29, 182, 0, 60, 192, 0, 81, 180, 0, 83]
abbrev dktX8_init_6 : List UInt8 := dkwX8_init_6 ++ dktX8_init_7
def dkwX8_init_5 : List UInt8 := [28, 182, 0, 74, 132, 5, 1, 167, 255, 227, 132, 3, 1, 167, 255, 194, 42, 182, 0, 78, 3, 62, 29, 42]
abbrev dktX8_init_5 : List UInt8 := dkwX8_init_5 ++ dktX8_init_6
def dkwX8_init_4 : List UInt8 := [54, 5, 21, 5, 42, 180, 0, 43, 25, 4, 180, 0, 66, 182, 0, 70, 162, 0, 18, 42, 25, 4, 21, 5]
abbrev dktX8_init_4 : List UInt8 := dkwX8_init_4 ++ dktX8_init_5
def dkwX8_init_3 : List UInt8 := [180, 0, 51, 182, 0, 56, 162, 0, 57, 43, 180, 0, 51, 29, 182, 0, 60, 192, 0, 64, 58, 4, 3]
abbrev dktX8_init_3 : List UInt8 := dkwX8_init_3 ++ dktX8_init_4
def dkwX8_init_2 : List UInt8 := [42, 187, 0, 38, 89, 43, 28, 183, 0, 40, 181, 0, 43, 42, 28, 182, 0, 47, 3, 62, 29, 43]
abbrev dktX8_init_2 : List UInt8 := dkwX8_init_2 ++ dktX8_init_3
def dkwX8_init_1 : List UInt8 := [187, 0, 22, 89, 16, 64, 187, 0, 24, 89, 183, 0, 26, 183, 0, 27, 181, 0, 30, 42, 43, 181, 0, 34]
abbrev dktX8_init_1 : List UInt8 := dkwX8_init_1 ++ dktX8_init_2
def dkwX8_init_0 : List UInt8 := [42, 183, 0, 3, 42, 187, 0, 9, 89, 183, 0, 11, 181, 0, 12, 42, 7, 188, 10, 181, 0, 18, 42]
abbrev dktX8_init_0 : List UInt8 := dkwX8_init_0 ++ dktX8_init_1
theorem dksX8_init_0 : cX8_init.data.toList.drop 0 = dktX8_init_0 := by decide +kernel
theorem dksX8_init_1 : cX8_init.data.toList.drop 23 = dktX8_init_1 := dk_seg dksX8_init_0 23 rfl rfl
theorem dksX8_init_2 : cX8_init.data.toList.drop 47 = dktX8_init_2 := dk_seg dksX8_init_1 24 rfl rfl
theorem dksX8_init_3 : cX8_init.data.toList.drop 69 = dktX8_init_3 := dk_seg dksX8_init_2 22 rfl rfl
theorem dksX8_init_4 : cX8_init.data.toList.drop 92 = dktX8_init_4 := dk_seg dksX8_init_3 23 rfl rfl
theorem dksX8_init_5 : cX8_init.data.toList.drop 116 = dktX8_init_5 := dk_seg dksX8_init_4 24 rfl rfl
theorem dksX8_init_6 : cX8_init.data.toList.drop 140 = dktX8_init_6 := dk_seg dksX8_init_5 24 rfl rfl
theorem dksX8_init_7 : cX8_init.data.toList.drop 163 = dktX8_init_7 := dk_seg dksX8_init_6 23 rfl rfl
theorem dksX8_init_8 : cX8_init.data.toList.drop 187 = dktX8_init_8 := dk_seg dksX8_init_7 24 rfl rfl
theorem dksX8_init_9 : cX8_init.data.toList.drop 211 = dktX8_init_9 := dk_seg dksX8_init_8 24 rfl rfl
theorem dX8_init_0 : decode cX8_init 0 = .ok (.aload_n 0, 1) := dk_42 (dk_at dksX8_init_0 0 rfl rfl)
theorem dX8_init_1 : decode cX8_init 1 = .ok (.invokespecial 3, 3) := dk_183 0 3 (dk_at dksX8_init_0 1 rfl rfl)
theorem dX8_init_4 : decode cX8_init 4 = .ok (.aload_n 0, 1) := dk_42 (dk_at dksX8_init_0 4 rfl rfl)
theorem dX8_init_5 : decode cX8_init 5 = .ok (.new 9, 3) := dk_187 0 9 (dk_at dksX8_init_0 5 rfl rfl)
theorem dX8_init_8 : decode cX8_init 8 = .ok (.dup, 1) := dk_89 (dk_at dksX8_init_0 8 rfl rfl)
theorem dX8_init_9 : decode cX8_init 9 = .ok (.invokespecial 11, 3) := dk_183 0 11 (dk_at dksX8_init_0 9 rfl rfl)
theorem dX8_init_12 : decode cX8_init 12 = .ok (.putfield 12, 3) := dk_181 0 12 (dk_at dksX8_init_0 12 rfl rfl)
theorem dX8_init_15 : decode cX8_init 15 = .ok (.aload_n 0, 1) := dk_42 (dk_at dksX8_init_0 15 rfl rfl)
theorem dX8_init_16 : decode cX8_init 16 = .ok (.iconst 4, 1) := dk_7 (dk_at dksX8_init_0 16 rfl rfl)
theorem dX8_init_17 : decode cX8_init 17 = .ok (.newarray .int, 2) := dk_188_10 (dk_at dksX8_init_0 17 rfl rfl)
theorem dX8_init_19 : decode cX8_init 19 = .ok (.putfield 18, 3) := dk_181 0 18 (dk_at dksX8_init_0 19 rfl rfl)
theorem dX8_init_22 : decode cX8_init 22 = .ok (.aload_n 0, 1) := dk_42 (dk_at dksX8_init_0 22 rfl rfl)
theorem dX8_init_23 : decode cX8_init 23 = .ok (.new 22, 3) := dk_187 0 22 (dk_at dksX8_init_1 0 rfl rfl)
theorem dX8_init_26 : decode cX8_init 26 = .ok (.dup, 1) := dk_89 (dk_at dksX8_init_1 3 rfl rfl)
theorem dX8_init_27 : decode cX8_init 27 = .ok (.bipush 64, 2) := dk_16 64 (dk_at dksX8_init_1 4 rfl rfl)
theorem dX8_init_29 : decode cX8_init 29 = .ok (.new 24, 3) := dk_187 0 24 (dk_at dksX8_init_1 6 rfl rfl)
theorem dX8_init_32 : decode cX8_init 32 = .ok (.dup, 1) := dk_89 (dk_at dksX8_init_1 9 rfl rfl)
theorem dX8_init_33 : decode cX8_init 33 = .ok (.invokespecial 26, 3) := dk_183 0 26 (dk_at dksX8_init_1 10 rfl rfl)
theorem dX8_init_36 : decode cX8_init 36 = .ok (.invokespecial 27, 3) := dk_183 0 27 (dk_at dksX8_init_1 13 rfl rfl)
theorem dX8_init_39 : decode cX8_init 39 = .ok (.putfield 30, 3) := dk_181 0 30 (dk_at dksX8_init_1 16 rfl rfl)
theorem dX8_init_42 : decode cX8_init 42 = .ok (.aload_n 0, 1) := dk_42 (dk_at dksX8_init_1 19 rfl rfl)
theorem dX8_init_43 : decode cX8_init 43 = .ok (.aload_n 1, 1) := dk_43 (dk_at dksX8_init_1 20 rfl rfl)
theorem dX8_init_44 : decode cX8_init 44 = .ok (.putfield 34, 3) := dk_181 0 34 (dk_at dksX8_init_1 21 rfl rfl)
theorem dX8_init_47 : decode cX8_init 47 = .ok (.aload_n 0, 1) := dk_42 (dk_at dksX8_init_2 0 rfl rfl)
theorem dX8_init_48 : decode cX8_init 48 = .ok (.new 38, 3) := dk_187 0 38 (dk_at dksX8_init_2 1 rfl rfl)
theorem dX8_init_51 : decode cX8_init 51 = .ok (.dup, 1) := dk_89 (dk_at dksX8_init_2 4 rfl rfl)
theorem dX8_init_52 : decode cX8_init 52 = .ok (.aload_n 1, 1) := dk_43 (dk_at dksX8_init_2 5 rfl rfl)
theorem dX8_init_53 : decode cX8_init 53 = .ok (.iload_n 2, 1) := dk_28 (dk_at dksX8_init_2 6 rfl rfl)
theorem dX8_init_54 : decode cX8_init 54 = .ok (.invokespecial 40, 3) := dk_183 0 40 (dk_at dksX8_init_2 7 rfl rfl)
theorem dX8_init_57 : decode cX8_init 57 = .ok (.putfield 43, 3) := dk_181 0 43 (dk_at dksX8_init_2 10 rfl rfl)
theorem dX8_init_60 : decode cX8_init 60 = .ok (.aload_n 0, 1) := dk_42 (dk_at dksX8_init_2 13 rfl rfl)
theorem dX8_init_61 : decode cX8_init 61 = .ok (.iload_n 2, 1) := dk_28 (dk_at dksX8_init_2 14 rfl rfl)
theorem dX8_init_62 : decode cX8_init 62 = .ok (.invokevirtual 47, 3) := dk_182 0 47 (dk_at dksX8_init_2 15 rfl rfl)
theorem dX8_init_65 : decode cX8_init 65 = .ok (.iconst 0, 1) := dk_3 (dk_at dksX8_init_2 18 rfl rfl)
theorem dX8_init_66 : decode cX8_init 66 = .ok (.istore_n 3, 1) := dk_62 (dk_at dksX8_init_2 19 rfl rfl)
theorem dX8_init_67 : decode cX8_init 67 = .ok (.iload_n 3, 1) := dk_29 (dk_at dksX8_init_2 20 rfl rfl)
theorem dX8_init_68 : decode cX8_init 68 = .ok (.aload_n 1, 1) := dk_43 (dk_at dksX8_init_2 21 rfl rfl)
theorem dX8_init_69 : decode cX8_init 69 = .ok (.getfield 51, 3) := dk_180 0 51 (dk_at dksX8_init_3 0 rfl rfl)
theorem dX8_init_72 : decode cX8_init 72 = .ok (.invokevirtual 56, 3) := dk_182 0 56 (dk_at dksX8_init_3 3 rfl rfl)
theorem dX8_init_75 : decode cX8_init 75 = .ok (.if_icmp .ge 57, 3) := dk_162 0 57 (dk_at dksX8_init_3 6 rfl rfl)
theorem dX8_init_78 : decode cX8_init 78 = .ok (.aload_n 1, 1) := dk_43 (dk_at dksX8_init_3 9 rfl rfl)
theorem dX8_init_79 : decode cX8_init 79 = .ok (.getfield 51, 3) := dk_180 0 51 (dk_at dksX8_init_3 10 rfl rfl)
theorem dX8_init_82 : decode cX8_init 82 = .ok (.iload_n 3, 1) := dk_29 (dk_at dksX8_init_3 13 rfl rfl)
theorem dX8_init_83 : decode cX8_init 83 = .ok (.invokevirtual 60, 3) := dk_182 0 60 (dk_at dksX8_init_3 14 rfl rfl)
theorem dX8_init_86 : decode cX8_init 86 = .ok (.checkcast 64, 3) := dk_192 0 64 (dk_at dksX8_init_3 17 rfl rfl)
theorem dX8_init_89 : decode cX8_init 89 = .ok (.astore 4, 2) := dk_58 4 (dk_at dksX8_init_3 20 rfl rfl)
theorem dX8_init_91 : decode cX8_init 91 = .ok (.iconst 0, 1) := dk_3 (dk_at dksX8_init_3 22 rfl rfl)
theorem dX8_init_92 : decode cX8_init 92 = .ok (.istore 5, 2) := dk_54 5 (dk_at dksX8_init_4 0 rfl rfl)
theorem dX8_init_94 : decode cX8_init 94 = .ok (.iload 5, 2) := dk_21 5 (dk_at dksX8_init_4 2 rfl rfl)
theorem dX8_init_96 : decode cX8_init 96 = .ok (.aload_n 0, 1) := dk_42 (dk_at dksX8_init_4 4 rfl rfl)
theorem dX8_init_97 : decode cX8_init 97 = .ok (.getfield 43, 3) := dk_180 0 43 (dk_at dksX8_init_4 5 rfl rfl)
theorem dX8_init_100 : decode cX8_init 100 = .ok (.aload 4, 2) := dk_25 4 (dk_at dksX8_init_4 8 rfl rfl)
theorem dX8_init_102 : decode cX8_init 102 = .ok (.getfield 66, 3) := dk_180 0 66 (dk_at dksX8_init_4 10 rfl rfl)
theorem dX8_init_105 : decode cX8_init 105 = .ok (.invokevirtual 70, 3) := dk_182 0 70 (dk_at dksX8_init_4 13 rfl rfl)
theorem dX8_init_108 : decode cX8_init 108 = .ok (.if_icmp .ge 18, 3) := dk_162 0 18 (dk_at dksX8_init_4 16 rfl rfl)
theorem dX8_init_111 : decode cX8_init 111 = .ok (.aload_n 0, 1) := dk_42 (dk_at dksX8_init_4 19 rfl rfl)
theorem dX8_init_112 : decode cX8_init 112 = .ok (.aload 4, 2) := dk_25 4 (dk_at dksX8_init_4 20 rfl rfl)
theorem dX8_init_114 : decode cX8_init 114 = .ok (.iload 5, 2) := dk_21 5 (dk_at dksX8_init_4 22 rfl rfl)
theorem dX8_init_116 : decode cX8_init 116 = .ok (.iload_n 2, 1) := dk_28 (dk_at dksX8_init_5 0 rfl rfl)
theorem dX8_init_117 : decode cX8_init 117 = .ok (.invokevirtual 74, 3) := dk_182 0 74 (dk_at dksX8_init_5 1 rfl rfl)
theorem dX8_init_120 : decode cX8_init 120 = .ok (.iinc 5 1, 3) := dk_132 5 1 (dk_at dksX8_init_5 4 rfl rfl)
theorem dX8_init_123 : decode cX8_init 123 = .ok (.goto (-29), 3) := dk_167 255 227 (dk_at dksX8_init_5 7 rfl rfl)
theorem dX8_init_126 : decode cX8_init 126 = .ok (.iinc 3 1, 3) := dk_132 3 1 (dk_at dksX8_init_5 10 rfl rfl)
theorem dX8_init_129 : decode cX8_init 129 = .ok (.goto (-62), 3) := dk_167 255 194 (dk_at dksX8_init_5 13 rfl rfl)
theorem dX8_init_132 : decode cX8_init 132 = .ok (.aload_n 0, 1) := dk_42 (dk_at dksX8_init_5 16 rfl rfl)
theorem dX8_init_133 : decode cX8_init 133 = .ok (.invokevirtual 78, 3) := dk_182 0 78 (dk_at dksX8_init_5 17 rfl rfl)
theorem dX8_init_136 : decode cX8_init 136 = .ok (.iconst 0, 1) := dk_3 (dk_at dksX8_init_5 20 rfl rfl)
theorem dX8_init_137 : decode cX8_init 137 = .ok (.istore_n 3, 1) := dk_62 (dk_at dksX8_init_5 21 rfl rfl)
theorem dX8_init_138 : decode cX8_init 138 = .ok (.iload_n 3, 1) := dk_29 (dk_at dksX8_init_5 22 rfl rfl)
theorem dX8_init_139 : decode cX8_init 139 = .ok (.aload_n 0, 1) := dk_42 (dk_at dksX8_init_5 23 rfl rfl)
theorem dX8_init_140 : decode cX8_init 140 = .ok (.getfield 12, 3) := dk_180 0 12 (dk_at dksX8_init_6 0 rfl rfl)
theorem dX8_init_143 : decode cX8_init 143 = .ok (.invokevirtual 56, 3) := dk_182 0 56 (dk_at dksX8_init_6 3 rfl rfl)
theorem dX8_init_146 : decode cX8_init 146 = .ok (.if_icmp .ge 44, 3) := dk_162 0 44 (dk_at dksX8_init_6 6 rfl rfl)
theorem dX8_init_149 : decode cX8_init 149 = .ok (.aload_n 0, 1) := dk_42 (dk_at dksX8_init_6 9 rfl rfl)
theorem dX8_init_150 : decode cX8_init 150 = .ok (.getfield 12, 3) := dk_180 0 12 (dk_at dksX8_init_6 10 rfl rfl)
theorem dX8_init_153 : decode cX8_init 153 = .ok (.iload_n 3, 1) := dk_29 (dk_at dksX8_init_6 13 rfl rfl)
theorem dX8_init_154 : decode cX8_init 154 = .ok (.invokevirtual 60, 3) := dk_182 0 60 (dk_at dksX8_init_6 14 rfl rfl)
theorem dX8_init_157 : decode cX8_init 157 = .ok (.checkcast 81, 3) := dk_192 0 81 (dk_at dksX8_init_6 17 rfl rfl)
theorem dX8_init_160 : decode cX8_init 160 = .ok (.getfield 83, 3) := dk_180 0 83 (dk_at dksX8_init_6 20 rfl rfl)
theorem dX8_init_163 : decode cX8_init 163 = .ok (.invokevirtual 87, 3) := dk_182 0 87 (dk_at dksX8_init_7 0 rfl rfl)
theorem dX8_init_166 : decode cX8_init 166 = .ok (.ifCond .ne 18, 3) := dk_154 0 18 (dk_at dksX8_init_7 3 rfl rfl)
theorem dX8_init_169 : decode cX8_init 169 = .ok (.aload_n 0, 1) := dk_42 (dk_at dksX8_init_7 6 rfl rfl)
theorem dX8_init_170 : decode cX8_init 170 = .ok (.aload_n 0, 1) := dk_42 (dk_at dksX8_init_7 7 rfl rfl)
theorem dX8_init_171 : decode cX8_init 171 = .ok (.getfield 12, 3) := dk_180 0 12 (dk_at dksX8_init_7 8 rfl rfl)
theorem dX8_init_174 : decode cX8_init 174 = .ok (.iload_n 3, 1) := dk_29 (dk_at dksX8_init_7 11 rfl rfl)
theorem dX8_init_175 : decode cX8_init 175 = .ok (.invokevirtual 60, 3) := dk_182 0 60 (dk_at dksX8_init_7 12 rfl rfl)
theorem dX8_init_178 : decode cX8_init 178 = .ok (.checkcast 81, 3) := dk_192 0 81 (dk_at dksX8_init_7 15 rfl rfl)
theorem dX8_init_181 : decode cX8_init 181 = .ok (.invokevirtual 93, 3) := dk_182 0 93 (dk_at dksX8_init_7 18 rfl rfl)
theorem dX8_init_184 : decode cX8_init 184 = .ok (.iinc 3 1, 3) := dk_132 3 1 (dk_at dksX8_init_7 21 rfl rfl)
theorem dX8_init_187 : decode cX8_init 187 = .ok (.goto (-49), 3) := dk_167 255 207 (dk_at dksX8_init_8 0 rfl rfl)
theorem dX8_init_190 : decode cX8_init 190 = .ok (.aload_n 0, 1) := dk_42 (dk_at dksX8_init_8 3 rfl rfl)
theorem dX8_init_191 : decode cX8_init 191 = .ok (.getfield 30, 3) := dk_180 0 30 (dk_at dksX8_init_8 4 rfl rfl)
theorem dX8_init_194 : decode cX8_init 194 = .ok (.invokevirtual 97, 3) := dk_182 0 97 (dk_at dksX8_init_8 7 rfl rfl)
theorem dX8_init_197 : decode cX8_init 197 = .ok (.ifCond .ne 27, 3) := dk_154 0 27 (dk_at dksX8_init_8 10 rfl rfl)
theorem dX8_init_200 : decode cX8_init 200 = .ok (.aload_n 0, 1) := dk_42 (dk_at dksX8_init_8 13 rfl rfl)
theorem dX8_init_201 : decode cX8_init 201 = .ok (.getfield 30, 3) := dk_180 0 30 (dk_at dksX8_init_8 14 rfl rfl)
theorem dX8_init_204 : decode cX8_init 204 = .ok (.invokevirtual 98, 3) := dk_182 0 98 (dk_at dksX8_init_8 17 rfl rfl)
theorem dX8_init_207 : decode cX8_init 207 = .ok (.checkcast 81, 3) := dk_192 0 81 (dk_at dksX8_init_8 20 rfl rfl)
theorem dX8_init_210 : decode cX8_init 210 = .ok (.astore_n 3, 1) := dk_78 (dk_at dksX8_init_8 23 rfl rfl)
theorem dX8_init_211 : decode cX8_init 211 = .ok (.aload_n 3, 1) := dk_45 (dk_at dksX8_init_9 0 rfl rfl)
theorem dX8_init_212 : decode cX8_init 212 = .ok (.iconst 0, 1) := dk_3 (dk_at dksX8_init_9 1 rfl rfl)
theorem dX8_init_213 : decode cX8_init 213 = .ok (.putfield 102, 3) := dk_181 0 102 (dk_at dksX8_init_9 2 rfl rfl)
theorem dX8_init_216 : decode cX8_init 216 = .ok (.aload_n 0, 1) := dk_42 (dk_at dksX8_init_9 5 rfl rfl)
theorem dX8_init_217 : decode cX8_init 217 = .ok (.aload_n 3, 1) := dk_45 (dk_at dksX8_init_9 6 rfl rfl)
theorem dX8_init_218 : decode cX8_init 218 = .ok (.invokevirtual 106, 3) := dk_182 0 106 (dk_at dksX8_init_9 7 rfl rfl)
theorem dX8_init_221 : decode cX8_init 221 = .ok (.goto (-31), 3) := dk_167 255 225 (dk_at dksX8_init_9 10 rfl rfl)
theorem dX8_init_224 : decode cX8_init 224 = .ok (.return_, 1) := dk_177 (dk_at dksX8_init_9 13 rfl rfl)
abbrev cX8_makeCells : ByteArray := prog_2_method_3_code
def yX8_makeCells : MethodName := ⟨RX8, "makeCells", "(I)V"⟩
def dkwX8_makeCells_5 : List UInt8 := [167, 255, 232, 177]
abbrev dktX8_makeCells_5 : List UInt8 := dkwX8_makeCells_5 ++ []
def dkwX8_makeCells_4 : List UInt8 := [42, 180, 0, 34, 180, 0, 125, 104, 162, 0, 17, 42, 16, 20, 28, 96, 182, 0, 116, 132, 2, 1]
abbrev dktX8_makeCells_4 : List UInt8 := dkwX8_makeCells_4 ++ dktX8_makeCells_5
def dkwX8_makeCells_3 : List UInt8 := [167, 255, 228, 132, 2, 1, 167, 255, 202, 42, 42, 180, 0, 12, 182, 0, 56, 181, 0, 122, 3, 61, 28, 6]
abbrev dktX8_makeCells_3 : List UInt8 := dkwX8_makeCells_3 ++ dktX8_makeCells_4
def dkwX8_makeCells_2 : List UInt8 := [28, 182, 0, 70, 104, 162, 0, 20, 42, 28, 29, 7, 112, 184, 0, 118, 182, 0, 116, 132, 3, 1]
abbrev dktX8_makeCells_2 : List UInt8 := dkwX8_makeCells_2 ++ dktX8_makeCells_3
def dkwX8_makeCells_1 : List UInt8 := [162, 0, 55, 42, 180, 0, 18, 28, 42, 180, 0, 12, 182, 0, 56, 79, 3, 62, 29, 7, 42, 180, 0, 43]
abbrev dktX8_makeCells_1 : List UInt8 := dkwX8_makeCells_1 ++ dktX8_makeCells_2
def dkwX8_makeCells_0 : List UInt8 := [3, 61, 28, 7, 162, 0, 14, 42, 28, 182, 0, 116, 132, 2, 1, 167, 255, 243, 3, 61, 28, 7]
abbrev dktX8_makeCells_0 : List UInt8 := dkwX8_makeCells_0 ++ dktX8_makeCells_1
theorem dksX8_makeCells_0 : cX8_makeCells.data.toList.drop 0 = dktX8_makeCells_0 := by decide +kernel
theorem dksX8_makeCells_1 : cX8_makeCells.data.toList.drop 22 = dktX8_makeCells_1 := dk_seg dksX8_makeCells_0 22 rfl rfl
theorem dksX8_makeCells_2 : cX8_makeCells.data.toList.drop 46 = dktX8_makeCells_2 := dk_seg dksX8_makeCells_1 24 rfl rfl
theorem dksX8_makeCells_3 : cX8_makeCells.data.toList.drop 68 = dktX8_makeCells_3 := dk_seg dksX8_makeCells_2 22 rfl rfl
theorem dksX8_makeCells_4 : cX8_makeCells.data.toList.drop 92 = dktX8_makeCells_4 := dk_seg dksX8_makeCells_3 24 rfl rfl
theorem dksX8_makeCells_5 : cX8_makeCells.data.toList.drop 114 = dktX8_makeCells_5 := dk_seg dksX8_makeCells_4 22 rfl rfl
theorem dX8_makeCells_0 : decode cX8_makeCells 0 = .ok (.iconst 0, 1) := dk_3 (dk_at dksX8_makeCells_0 0 rfl rfl)
theorem dX8_makeCells_1 : decode cX8_makeCells 1 = .ok (.istore_n 2, 1) := dk_61 (dk_at dksX8_makeCells_0 1 rfl rfl)
theorem dX8_makeCells_2 : decode cX8_makeCells 2 = .ok (.iload_n 2, 1) := dk_28 (dk_at dksX8_makeCells_0 2 rfl rfl)
theorem dX8_makeCells_3 : decode cX8_makeCells 3 = .ok (.iconst 4, 1) := dk_7 (dk_at dksX8_makeCells_0 3 rfl rfl)
theorem dX8_makeCells_4 : decode cX8_makeCells 4 = .ok (.if_icmp .ge 14, 3) := dk_162 0 14 (dk_at dksX8_makeCells_0 4 rfl rfl)
theorem dX8_makeCells_7 : decode cX8_makeCells 7 = .ok (.aload_n 0, 1) := dk_42 (dk_at dksX8_makeCells_0 7 rfl rfl)
theorem dX8_makeCells_8 : decode cX8_makeCells 8 = .ok (.iload_n 2, 1) := dk_28 (dk_at dksX8_makeCells_0 8 rfl rfl)
theorem dX8_makeCells_9 : decode cX8_makeCells 9 = .ok (.invokevirtual 116, 3) := dk_182 0 116 (dk_at dksX8_makeCells_0 9 rfl rfl)
theorem dX8_makeCells_12 : decode cX8_makeCells 12 = .ok (.iinc 2 1, 3) := dk_132 2 1 (dk_at dksX8_makeCells_0 12 rfl rfl)
theorem dX8_makeCells_15 : decode cX8_makeCells 15 = .ok (.goto (-13), 3) := dk_167 255 243 (dk_at dksX8_makeCells_0 15 rfl rfl)
theorem dX8_makeCells_18 : decode cX8_makeCells 18 = .ok (.iconst 0, 1) := dk_3 (dk_at dksX8_makeCells_0 18 rfl rfl)
theorem dX8_makeCells_19 : decode cX8_makeCells 19 = .ok (.istore_n 2, 1) := dk_61 (dk_at dksX8_makeCells_0 19 rfl rfl)
theorem dX8_makeCells_20 : decode cX8_makeCells 20 = .ok (.iload_n 2, 1) := dk_28 (dk_at dksX8_makeCells_0 20 rfl rfl)
theorem dX8_makeCells_21 : decode cX8_makeCells 21 = .ok (.iconst 4, 1) := dk_7 (dk_at dksX8_makeCells_0 21 rfl rfl)
theorem dX8_makeCells_22 : decode cX8_makeCells 22 = .ok (.if_icmp .ge 55, 3) := dk_162 0 55 (dk_at dksX8_makeCells_1 0 rfl rfl)
theorem dX8_makeCells_25 : decode cX8_makeCells 25 = .ok (.aload_n 0, 1) := dk_42 (dk_at dksX8_makeCells_1 3 rfl rfl)
theorem dX8_makeCells_26 : decode cX8_makeCells 26 = .ok (.getfield 18, 3) := dk_180 0 18 (dk_at dksX8_makeCells_1 4 rfl rfl)
theorem dX8_makeCells_29 : decode cX8_makeCells 29 = .ok (.iload_n 2, 1) := dk_28 (dk_at dksX8_makeCells_1 7 rfl rfl)
theorem dX8_makeCells_30 : decode cX8_makeCells 30 = .ok (.aload_n 0, 1) := dk_42 (dk_at dksX8_makeCells_1 8 rfl rfl)
theorem dX8_makeCells_31 : decode cX8_makeCells 31 = .ok (.getfield 12, 3) := dk_180 0 12 (dk_at dksX8_makeCells_1 9 rfl rfl)
theorem dX8_makeCells_34 : decode cX8_makeCells 34 = .ok (.invokevirtual 56, 3) := dk_182 0 56 (dk_at dksX8_makeCells_1 12 rfl rfl)
theorem dX8_makeCells_37 : decode cX8_makeCells 37 = .ok (.iastore, 1) := dk_79 (dk_at dksX8_makeCells_1 15 rfl rfl)
theorem dX8_makeCells_38 : decode cX8_makeCells 38 = .ok (.iconst 0, 1) := dk_3 (dk_at dksX8_makeCells_1 16 rfl rfl)
theorem dX8_makeCells_39 : decode cX8_makeCells 39 = .ok (.istore_n 3, 1) := dk_62 (dk_at dksX8_makeCells_1 17 rfl rfl)
theorem dX8_makeCells_40 : decode cX8_makeCells 40 = .ok (.iload_n 3, 1) := dk_29 (dk_at dksX8_makeCells_1 18 rfl rfl)
theorem dX8_makeCells_41 : decode cX8_makeCells 41 = .ok (.iconst 4, 1) := dk_7 (dk_at dksX8_makeCells_1 19 rfl rfl)
theorem dX8_makeCells_42 : decode cX8_makeCells 42 = .ok (.aload_n 0, 1) := dk_42 (dk_at dksX8_makeCells_1 20 rfl rfl)
theorem dX8_makeCells_43 : decode cX8_makeCells 43 = .ok (.getfield 43, 3) := dk_180 0 43 (dk_at dksX8_makeCells_1 21 rfl rfl)
theorem dX8_makeCells_46 : decode cX8_makeCells 46 = .ok (.iload_n 2, 1) := dk_28 (dk_at dksX8_makeCells_2 0 rfl rfl)
theorem dX8_makeCells_47 : decode cX8_makeCells 47 = .ok (.invokevirtual 70, 3) := dk_182 0 70 (dk_at dksX8_makeCells_2 1 rfl rfl)
theorem dX8_makeCells_50 : decode cX8_makeCells 50 = .ok (.imul, 1) := dk_104 (dk_at dksX8_makeCells_2 4 rfl rfl)
theorem dX8_makeCells_51 : decode cX8_makeCells 51 = .ok (.if_icmp .ge 20, 3) := dk_162 0 20 (dk_at dksX8_makeCells_2 5 rfl rfl)
theorem dX8_makeCells_54 : decode cX8_makeCells 54 = .ok (.aload_n 0, 1) := dk_42 (dk_at dksX8_makeCells_2 8 rfl rfl)
theorem dX8_makeCells_55 : decode cX8_makeCells 55 = .ok (.iload_n 2, 1) := dk_28 (dk_at dksX8_makeCells_2 9 rfl rfl)
theorem dX8_makeCells_56 : decode cX8_makeCells 56 = .ok (.iload_n 3, 1) := dk_29 (dk_at dksX8_makeCells_2 10 rfl rfl)
theorem dX8_makeCells_57 : decode cX8_makeCells 57 = .ok (.iconst 4, 1) := dk_7 (dk_at dksX8_makeCells_2 11 rfl rfl)
theorem dX8_makeCells_58 : decode cX8_makeCells 58 = .ok (.irem, 1) := dk_112 (dk_at dksX8_makeCells_2 12 rfl rfl)
theorem dX8_makeCells_59 : decode cX8_makeCells 59 = .ok (.invokestatic 118, 3) := dk_184 0 118 (dk_at dksX8_makeCells_2 13 rfl rfl)
theorem dX8_makeCells_62 : decode cX8_makeCells 62 = .ok (.invokevirtual 116, 3) := dk_182 0 116 (dk_at dksX8_makeCells_2 16 rfl rfl)
theorem dX8_makeCells_65 : decode cX8_makeCells 65 = .ok (.iinc 3 1, 3) := dk_132 3 1 (dk_at dksX8_makeCells_2 19 rfl rfl)
theorem dX8_makeCells_68 : decode cX8_makeCells 68 = .ok (.goto (-28), 3) := dk_167 255 228 (dk_at dksX8_makeCells_3 0 rfl rfl)
theorem dX8_makeCells_71 : decode cX8_makeCells 71 = .ok (.iinc 2 1, 3) := dk_132 2 1 (dk_at dksX8_makeCells_3 3 rfl rfl)
theorem dX8_makeCells_74 : decode cX8_makeCells 74 = .ok (.goto (-54), 3) := dk_167 255 202 (dk_at dksX8_makeCells_3 6 rfl rfl)
theorem dX8_makeCells_77 : decode cX8_makeCells 77 = .ok (.aload_n 0, 1) := dk_42 (dk_at dksX8_makeCells_3 9 rfl rfl)
theorem dX8_makeCells_78 : decode cX8_makeCells 78 = .ok (.aload_n 0, 1) := dk_42 (dk_at dksX8_makeCells_3 10 rfl rfl)
theorem dX8_makeCells_79 : decode cX8_makeCells 79 = .ok (.getfield 12, 3) := dk_180 0 12 (dk_at dksX8_makeCells_3 11 rfl rfl)
theorem dX8_makeCells_82 : decode cX8_makeCells 82 = .ok (.invokevirtual 56, 3) := dk_182 0 56 (dk_at dksX8_makeCells_3 14 rfl rfl)
theorem dX8_makeCells_85 : decode cX8_makeCells 85 = .ok (.putfield 122, 3) := dk_181 0 122 (dk_at dksX8_makeCells_3 17 rfl rfl)
theorem dX8_makeCells_88 : decode cX8_makeCells 88 = .ok (.iconst 0, 1) := dk_3 (dk_at dksX8_makeCells_3 20 rfl rfl)
theorem dX8_makeCells_89 : decode cX8_makeCells 89 = .ok (.istore_n 2, 1) := dk_61 (dk_at dksX8_makeCells_3 21 rfl rfl)
theorem dX8_makeCells_90 : decode cX8_makeCells 90 = .ok (.iload_n 2, 1) := dk_28 (dk_at dksX8_makeCells_3 22 rfl rfl)
theorem dX8_makeCells_91 : decode cX8_makeCells 91 = .ok (.iconst 3, 1) := dk_6 (dk_at dksX8_makeCells_3 23 rfl rfl)
theorem dX8_makeCells_92 : decode cX8_makeCells 92 = .ok (.aload_n 0, 1) := dk_42 (dk_at dksX8_makeCells_4 0 rfl rfl)
theorem dX8_makeCells_93 : decode cX8_makeCells 93 = .ok (.getfield 34, 3) := dk_180 0 34 (dk_at dksX8_makeCells_4 1 rfl rfl)
theorem dX8_makeCells_96 : decode cX8_makeCells 96 = .ok (.getfield 125, 3) := dk_180 0 125 (dk_at dksX8_makeCells_4 4 rfl rfl)
theorem dX8_makeCells_99 : decode cX8_makeCells 99 = .ok (.imul, 1) := dk_104 (dk_at dksX8_makeCells_4 7 rfl rfl)
theorem dX8_makeCells_100 : decode cX8_makeCells 100 = .ok (.if_icmp .ge 17, 3) := dk_162 0 17 (dk_at dksX8_makeCells_4 8 rfl rfl)
theorem dX8_makeCells_103 : decode cX8_makeCells 103 = .ok (.aload_n 0, 1) := dk_42 (dk_at dksX8_makeCells_4 11 rfl rfl)
theorem dX8_makeCells_104 : decode cX8_makeCells 104 = .ok (.bipush 20, 2) := dk_16 20 (dk_at dksX8_makeCells_4 12 rfl rfl)
theorem dX8_makeCells_106 : decode cX8_makeCells 106 = .ok (.iload_n 2, 1) := dk_28 (dk_at dksX8_makeCells_4 14 rfl rfl)
theorem dX8_makeCells_107 : decode cX8_makeCells 107 = .ok (.iadd, 1) := dk_96 (dk_at dksX8_makeCells_4 15 rfl rfl)
theorem dX8_makeCells_108 : decode cX8_makeCells 108 = .ok (.invokevirtual 116, 3) := dk_182 0 116 (dk_at dksX8_makeCells_4 16 rfl rfl)
theorem dX8_makeCells_111 : decode cX8_makeCells 111 = .ok (.iinc 2 1, 3) := dk_132 2 1 (dk_at dksX8_makeCells_4 19 rfl rfl)
theorem dX8_makeCells_114 : decode cX8_makeCells 114 = .ok (.goto (-24), 3) := dk_167 255 232 (dk_at dksX8_makeCells_5 0 rfl rfl)
theorem dX8_makeCells_117 : decode cX8_makeCells 117 = .ok (.return_, 1) := dk_177 (dk_at dksX8_makeCells_5 3 rfl rfl)
abbrev cX8_add : ByteArray := prog_2_method_2_code
def yX8_add : MethodName := ⟨RX8, "add", "(I)V"⟩
def dkwX8_add_0 : List UInt8 := [42, 180, 0, 12, 187, 0, 81, 89, 42, 180, 0, 12, 182, 0, 56, 27, 183, 0, 109, 182, 0, 112, 87, 177]
abbrev dktX8_add_0 : List UInt8 := dkwX8_add_0 ++ []
theorem dksX8_add_0 : cX8_add.data.toList.drop 0 = dktX8_add_0 := by decide +kernel
theorem dX8_add_0 : decode cX8_add 0 = .ok (.aload_n 0, 1) := dk_42 (dk_at dksX8_add_0 0 rfl rfl)
theorem dX8_add_1 : decode cX8_add 1 = .ok (.getfield 12, 3) := dk_180 0 12 (dk_at dksX8_add_0 1 rfl rfl)
theorem dX8_add_4 : decode cX8_add 4 = .ok (.new 81, 3) := dk_187 0 81 (dk_at dksX8_add_0 4 rfl rfl)
theorem dX8_add_7 : decode cX8_add 7 = .ok (.dup, 1) := dk_89 (dk_at dksX8_add_0 7 rfl rfl)
theorem dX8_add_8 : decode cX8_add 8 = .ok (.aload_n 0, 1) := dk_42 (dk_at dksX8_add_0 8 rfl rfl)
theorem dX8_add_9 : decode cX8_add 9 = .ok (.getfield 12, 3) := dk_180 0 12 (dk_at dksX8_add_0 9 rfl rfl)
theorem dX8_add_12 : decode cX8_add 12 = .ok (.invokevirtual 56, 3) := dk_182 0 56 (dk_at dksX8_add_0 12 rfl rfl)
theorem dX8_add_15 : decode cX8_add 15 = .ok (.iload_n 1, 1) := dk_27 (dk_at dksX8_add_0 15 rfl rfl)
theorem dX8_add_16 : decode cX8_add 16 = .ok (.invokespecial 109, 3) := dk_183 0 109 (dk_at dksX8_add_0 16 rfl rfl)
theorem dX8_add_19 : decode cX8_add 19 = .ok (.invokevirtual 112, 3) := dk_182 0 112 (dk_at dksX8_add_0 19 rfl rfl)
theorem dX8_add_22 : decode cX8_add 22 = .ok (.pop, 1) := dk_87 (dk_at dksX8_add_0 22 rfl rfl)
theorem dX8_add_23 : decode cX8_add 23 = .ok (.return_, 1) := dk_177 (dk_at dksX8_add_0 23 rfl rfl)
abbrev cX8_constrain : ByteArray := prog_2_method_5_code
def yX8_constrain : MethodName := ⟨RX8, "constrain", "(LPointerAnalyzer$Statement;II)V"⟩
def dkwX8_constrain_12 : List UInt8 := [180, 0, 179, 4, 184, 0, 118, 21, 8, 182, 0, 140, 180, 0, 162, 25, 5, 180, 0, 156, 182, 0, 159, 177]
abbrev dktX8_constrain_12 : List UInt8 := dkwX8_constrain_12 ++ []
def dkwX8_constrain_11 : List UInt8 := [25, 4, 180, 0, 179, 3, 184, 0, 118, 21, 8, 182, 0, 140, 180, 0, 156, 182, 0, 159, 42, 25, 4]
abbrev dktX8_constrain_11 : List UInt8 := dkwX8_constrain_11 ++ dktX8_constrain_12
def dkwX8_constrain_10 : List UInt8 := [58, 7, 42, 180, 0, 43, 25, 4, 180, 0, 179, 25, 7, 182, 0, 195, 54, 8, 25, 6, 180, 0, 162, 42]
abbrev dktX8_constrain_10 : List UInt8 := dkwX8_constrain_10 ++ dktX8_constrain_11
def dkwX8_constrain_9 : List UInt8 := [180, 0, 66, 182, 0, 60, 192, 0, 9, 28, 182, 0, 60, 192, 0, 188, 43, 180, 0, 190, 29, 182, 0, 191]
abbrev dktX8_constrain_9 : List UInt8 := dkwX8_constrain_9 ++ dktX8_constrain_10
def dkwX8_constrain_8 : List UInt8 := [25, 4, 180, 0, 179, 183, 0, 182, 182, 0, 112, 87, 167, 0, 105, 42, 180, 0, 43, 180, 0, 185, 43]
abbrev dktX8_constrain_8 : List UInt8 := dkwX8_constrain_8 ++ dktX8_constrain_9
def dkwX8_constrain_7 : List UInt8 := [43, 180, 0, 171, 104, 96, 182, 0, 159, 167, 0, 131, 25, 6, 180, 0, 174, 187, 0, 177, 89, 25, 5]
abbrev dktX8_constrain_7 : List UInt8 := dkwX8_constrain_7 ++ dktX8_constrain_8
def dkwX8_constrain_6 : List UInt8 := [25, 5, 180, 0, 168, 25, 6, 182, 0, 112, 87, 167, 0, 153, 25, 5, 180, 0, 83, 42, 180, 0, 122, 6]
abbrev dktX8_constrain_6 : List UInt8 := dkwX8_constrain_6 ++ dktX8_constrain_7
def dkwX8_constrain_5 : List UInt8 := [180, 0, 156, 182, 0, 159, 167, 0, 181, 25, 6, 180, 0, 165, 25, 5, 182, 0, 112, 87, 167, 0, 167]
abbrev dktX8_constrain_5 : List UInt8 := dkwX8_constrain_5 ++ dktX8_constrain_6
def dkwX8_constrain_4 : List UInt8 := [25, 5, 180, 0, 83, 25, 6, 180, 0, 156, 182, 0, 159, 167, 0, 197, 25, 6, 180, 0, 162, 25, 5]
abbrev dktX8_constrain_4 : List UInt8 := dkwX8_constrain_4 ++ dktX8_constrain_5
def dkwX8_constrain_3 : List UInt8 := [170, 0, 0, 0, 0, 146, 0, 0, 0, 0, 0, 0, 0, 5, 0, 0, 0, 38, 0, 0, 0, 54, 0, 0, 0, 70, 0, 0, 0, 84, 0, 0, 0, 98, 0, 0, 0, 120]
abbrev dktX8_constrain_3 : List UInt8 := dkwX8_constrain_3 ++ dktX8_constrain_4
def dkwX8_constrain_2 : List UInt8 := [182, 0, 151]
abbrev dktX8_constrain_2 : List UInt8 := dkwX8_constrain_2 ++ dktX8_constrain_3
def dkwX8_constrain_1 : List UInt8 := [156, 0, 7, 1, 167, 0, 13, 42, 25, 4, 180, 0, 144, 28, 182, 0, 140, 58, 6, 25, 4, 180, 0, 147]
abbrev dktX8_constrain_1 : List UInt8 := dkwX8_constrain_1 ++ dktX8_constrain_2
def dkwX8_constrain_0 : List UInt8 := [43, 180, 0, 131, 58, 4, 42, 25, 4, 180, 0, 135, 28, 182, 0, 140, 58, 5, 25, 4, 180, 0, 144]
abbrev dktX8_constrain_0 : List UInt8 := dkwX8_constrain_0 ++ dktX8_constrain_1
theorem dksX8_constrain_0 : cX8_constrain.data.toList.drop 0 = dktX8_constrain_0 := by decide +kernel
theorem dksX8_constrain_1 : cX8_constrain.data.toList.drop 23 = dktX8_constrain_1 := dk_seg dksX8_constrain_0 23 rfl rfl
theorem dksX8_constrain_2 : cX8_constrain.data.toList.drop 47 = dktX8_constrain_2 := dk_seg dksX8_constrain_1 24 rfl rfl
theorem dksX8_constrain_3 : cX8_constrain.data.toList.drop 50 = dktX8_constrain_3 := dk_seg dksX8_constrain_2 3 rfl rfl
theorem dksX8_constrain_4 : cX8_constrain.data.toList.drop 88 = dktX8_constrain_4 := dk_seg dksX8_constrain_3 38 rfl rfl
theorem dksX8_constrain_5 : cX8_constrain.data.toList.drop 111 = dktX8_constrain_5 := dk_seg dksX8_constrain_4 23 rfl rfl
theorem dksX8_constrain_6 : cX8_constrain.data.toList.drop 134 = dktX8_constrain_6 := dk_seg dksX8_constrain_5 23 rfl rfl
theorem dksX8_constrain_7 : cX8_constrain.data.toList.drop 158 = dktX8_constrain_7 := dk_seg dksX8_constrain_6 24 rfl rfl
theorem dksX8_constrain_8 : cX8_constrain.data.toList.drop 181 = dktX8_constrain_8 := dk_seg dksX8_constrain_7 23 rfl rfl
theorem dksX8_constrain_9 : cX8_constrain.data.toList.drop 204 = dktX8_constrain_9 := dk_seg dksX8_constrain_8 23 rfl rfl
theorem dksX8_constrain_10 : cX8_constrain.data.toList.drop 228 = dktX8_constrain_10 := dk_seg dksX8_constrain_9 24 rfl rfl
theorem dksX8_constrain_11 : cX8_constrain.data.toList.drop 252 = dktX8_constrain_11 := dk_seg dksX8_constrain_10 24 rfl rfl
theorem dksX8_constrain_12 : cX8_constrain.data.toList.drop 275 = dktX8_constrain_12 := dk_seg dksX8_constrain_11 23 rfl rfl
theorem dX8_constrain_0 : decode cX8_constrain 0 = .ok (.aload_n 1, 1) := dk_43 (dk_at dksX8_constrain_0 0 rfl rfl)
theorem dX8_constrain_1 : decode cX8_constrain 1 = .ok (.getfield 131, 3) := dk_180 0 131 (dk_at dksX8_constrain_0 1 rfl rfl)
theorem dX8_constrain_4 : decode cX8_constrain 4 = .ok (.astore 4, 2) := dk_58 4 (dk_at dksX8_constrain_0 4 rfl rfl)
theorem dX8_constrain_6 : decode cX8_constrain 6 = .ok (.aload_n 0, 1) := dk_42 (dk_at dksX8_constrain_0 6 rfl rfl)
theorem dX8_constrain_7 : decode cX8_constrain 7 = .ok (.aload 4, 2) := dk_25 4 (dk_at dksX8_constrain_0 7 rfl rfl)
theorem dX8_constrain_9 : decode cX8_constrain 9 = .ok (.getfield 135, 3) := dk_180 0 135 (dk_at dksX8_constrain_0 9 rfl rfl)
theorem dX8_constrain_12 : decode cX8_constrain 12 = .ok (.iload_n 2, 1) := dk_28 (dk_at dksX8_constrain_0 12 rfl rfl)
theorem dX8_constrain_13 : decode cX8_constrain 13 = .ok (.invokevirtual 140, 3) := dk_182 0 140 (dk_at dksX8_constrain_0 13 rfl rfl)
theorem dX8_constrain_16 : decode cX8_constrain 16 = .ok (.astore 5, 2) := dk_58 5 (dk_at dksX8_constrain_0 16 rfl rfl)
theorem dX8_constrain_18 : decode cX8_constrain 18 = .ok (.aload 4, 2) := dk_25 4 (dk_at dksX8_constrain_0 18 rfl rfl)
theorem dX8_constrain_20 : decode cX8_constrain 20 = .ok (.getfield 144, 3) := dk_180 0 144 (dk_at dksX8_constrain_0 20 rfl rfl)
theorem dX8_constrain_23 : decode cX8_constrain 23 = .ok (.ifCond .ge 7, 3) := dk_156 0 7 (dk_at dksX8_constrain_1 0 rfl rfl)
theorem dX8_constrain_26 : decode cX8_constrain 26 = .ok (.aconst_null, 1) := dk_1 (dk_at dksX8_constrain_1 3 rfl rfl)
theorem dX8_constrain_27 : decode cX8_constrain 27 = .ok (.goto 13, 3) := dk_167 0 13 (dk_at dksX8_constrain_1 4 rfl rfl)
theorem dX8_constrain_30 : decode cX8_constrain 30 = .ok (.aload_n 0, 1) := dk_42 (dk_at dksX8_constrain_1 7 rfl rfl)
theorem dX8_constrain_31 : decode cX8_constrain 31 = .ok (.aload 4, 2) := dk_25 4 (dk_at dksX8_constrain_1 8 rfl rfl)
theorem dX8_constrain_33 : decode cX8_constrain 33 = .ok (.getfield 144, 3) := dk_180 0 144 (dk_at dksX8_constrain_1 10 rfl rfl)
theorem dX8_constrain_36 : decode cX8_constrain 36 = .ok (.iload_n 2, 1) := dk_28 (dk_at dksX8_constrain_1 13 rfl rfl)
theorem dX8_constrain_37 : decode cX8_constrain 37 = .ok (.invokevirtual 140, 3) := dk_182 0 140 (dk_at dksX8_constrain_1 14 rfl rfl)
theorem dX8_constrain_40 : decode cX8_constrain 40 = .ok (.astore 6, 2) := dk_58 6 (dk_at dksX8_constrain_1 17 rfl rfl)
theorem dX8_constrain_42 : decode cX8_constrain 42 = .ok (.aload 4, 2) := dk_25 4 (dk_at dksX8_constrain_1 19 rfl rfl)
theorem dX8_constrain_44 : decode cX8_constrain 44 = .ok (.getfield 147, 3) := dk_180 0 147 (dk_at dksX8_constrain_1 21 rfl rfl)
theorem dX8_constrain_47 : decode cX8_constrain 47 = .ok (.invokevirtual 151, 3) := dk_182 0 151 (dk_at dksX8_constrain_2 0 rfl rfl)
theorem dX8_constrain_50 : decode cX8_constrain 50 = .ok (.tableswitch 146 0 5 #[38, 54, 70, 84, 98, 120], 38) := by decide +kernel
theorem dX8_constrain_88 : decode cX8_constrain 88 = .ok (.aload 5, 2) := dk_25 5 (dk_at dksX8_constrain_4 0 rfl rfl)
theorem dX8_constrain_90 : decode cX8_constrain 90 = .ok (.getfield 83, 3) := dk_180 0 83 (dk_at dksX8_constrain_4 2 rfl rfl)
theorem dX8_constrain_93 : decode cX8_constrain 93 = .ok (.aload 6, 2) := dk_25 6 (dk_at dksX8_constrain_4 5 rfl rfl)
theorem dX8_constrain_95 : decode cX8_constrain 95 = .ok (.getfield 156, 3) := dk_180 0 156 (dk_at dksX8_constrain_4 7 rfl rfl)
theorem dX8_constrain_98 : decode cX8_constrain 98 = .ok (.invokevirtual 159, 3) := dk_182 0 159 (dk_at dksX8_constrain_4 10 rfl rfl)
theorem dX8_constrain_101 : decode cX8_constrain 101 = .ok (.goto 197, 3) := dk_167 0 197 (dk_at dksX8_constrain_4 13 rfl rfl)
theorem dX8_constrain_104 : decode cX8_constrain 104 = .ok (.aload 6, 2) := dk_25 6 (dk_at dksX8_constrain_4 16 rfl rfl)
theorem dX8_constrain_106 : decode cX8_constrain 106 = .ok (.getfield 162, 3) := dk_180 0 162 (dk_at dksX8_constrain_4 18 rfl rfl)
theorem dX8_constrain_109 : decode cX8_constrain 109 = .ok (.aload 5, 2) := dk_25 5 (dk_at dksX8_constrain_4 21 rfl rfl)
theorem dX8_constrain_111 : decode cX8_constrain 111 = .ok (.getfield 156, 3) := dk_180 0 156 (dk_at dksX8_constrain_5 0 rfl rfl)
theorem dX8_constrain_114 : decode cX8_constrain 114 = .ok (.invokevirtual 159, 3) := dk_182 0 159 (dk_at dksX8_constrain_5 3 rfl rfl)
theorem dX8_constrain_117 : decode cX8_constrain 117 = .ok (.goto 181, 3) := dk_167 0 181 (dk_at dksX8_constrain_5 6 rfl rfl)
theorem dX8_constrain_120 : decode cX8_constrain 120 = .ok (.aload 6, 2) := dk_25 6 (dk_at dksX8_constrain_5 9 rfl rfl)
theorem dX8_constrain_122 : decode cX8_constrain 122 = .ok (.getfield 165, 3) := dk_180 0 165 (dk_at dksX8_constrain_5 11 rfl rfl)
theorem dX8_constrain_125 : decode cX8_constrain 125 = .ok (.aload 5, 2) := dk_25 5 (dk_at dksX8_constrain_5 14 rfl rfl)
theorem dX8_constrain_127 : decode cX8_constrain 127 = .ok (.invokevirtual 112, 3) := dk_182 0 112 (dk_at dksX8_constrain_5 16 rfl rfl)
theorem dX8_constrain_130 : decode cX8_constrain 130 = .ok (.pop, 1) := dk_87 (dk_at dksX8_constrain_5 19 rfl rfl)
theorem dX8_constrain_131 : decode cX8_constrain 131 = .ok (.goto 167, 3) := dk_167 0 167 (dk_at dksX8_constrain_5 20 rfl rfl)
theorem dX8_constrain_134 : decode cX8_constrain 134 = .ok (.aload 5, 2) := dk_25 5 (dk_at dksX8_constrain_6 0 rfl rfl)
theorem dX8_constrain_136 : decode cX8_constrain 136 = .ok (.getfield 168, 3) := dk_180 0 168 (dk_at dksX8_constrain_6 2 rfl rfl)
theorem dX8_constrain_139 : decode cX8_constrain 139 = .ok (.aload 6, 2) := dk_25 6 (dk_at dksX8_constrain_6 5 rfl rfl)
theorem dX8_constrain_141 : decode cX8_constrain 141 = .ok (.invokevirtual 112, 3) := dk_182 0 112 (dk_at dksX8_constrain_6 7 rfl rfl)
theorem dX8_constrain_144 : decode cX8_constrain 144 = .ok (.pop, 1) := dk_87 (dk_at dksX8_constrain_6 10 rfl rfl)
theorem dX8_constrain_145 : decode cX8_constrain 145 = .ok (.goto 153, 3) := dk_167 0 153 (dk_at dksX8_constrain_6 11 rfl rfl)
theorem dX8_constrain_148 : decode cX8_constrain 148 = .ok (.aload 5, 2) := dk_25 5 (dk_at dksX8_constrain_6 14 rfl rfl)
theorem dX8_constrain_150 : decode cX8_constrain 150 = .ok (.getfield 83, 3) := dk_180 0 83 (dk_at dksX8_constrain_6 16 rfl rfl)
theorem dX8_constrain_153 : decode cX8_constrain 153 = .ok (.aload_n 0, 1) := dk_42 (dk_at dksX8_constrain_6 19 rfl rfl)
theorem dX8_constrain_154 : decode cX8_constrain 154 = .ok (.getfield 122, 3) := dk_180 0 122 (dk_at dksX8_constrain_6 20 rfl rfl)
theorem dX8_constrain_157 : decode cX8_constrain 157 = .ok (.iconst 3, 1) := dk_6 (dk_at dksX8_constrain_6 23 rfl rfl)
theorem dX8_constrain_158 : decode cX8_constrain 158 = .ok (.aload_n 1, 1) := dk_43 (dk_at dksX8_constrain_7 0 rfl rfl)
theorem dX8_constrain_159 : decode cX8_constrain 159 = .ok (.getfield 171, 3) := dk_180 0 171 (dk_at dksX8_constrain_7 1 rfl rfl)
theorem dX8_constrain_162 : decode cX8_constrain 162 = .ok (.imul, 1) := dk_104 (dk_at dksX8_constrain_7 4 rfl rfl)
theorem dX8_constrain_163 : decode cX8_constrain 163 = .ok (.iadd, 1) := dk_96 (dk_at dksX8_constrain_7 5 rfl rfl)
theorem dX8_constrain_164 : decode cX8_constrain 164 = .ok (.invokevirtual 159, 3) := dk_182 0 159 (dk_at dksX8_constrain_7 6 rfl rfl)
theorem dX8_constrain_167 : decode cX8_constrain 167 = .ok (.goto 131, 3) := dk_167 0 131 (dk_at dksX8_constrain_7 9 rfl rfl)
theorem dX8_constrain_170 : decode cX8_constrain 170 = .ok (.aload 6, 2) := dk_25 6 (dk_at dksX8_constrain_7 12 rfl rfl)
theorem dX8_constrain_172 : decode cX8_constrain 172 = .ok (.getfield 174, 3) := dk_180 0 174 (dk_at dksX8_constrain_7 14 rfl rfl)
theorem dX8_constrain_175 : decode cX8_constrain 175 = .ok (.new 177, 3) := dk_187 0 177 (dk_at dksX8_constrain_7 17 rfl rfl)
theorem dX8_constrain_178 : decode cX8_constrain 178 = .ok (.dup, 1) := dk_89 (dk_at dksX8_constrain_7 20 rfl rfl)
theorem dX8_constrain_179 : decode cX8_constrain 179 = .ok (.aload 5, 2) := dk_25 5 (dk_at dksX8_constrain_7 21 rfl rfl)
theorem dX8_constrain_181 : decode cX8_constrain 181 = .ok (.aload 4, 2) := dk_25 4 (dk_at dksX8_constrain_8 0 rfl rfl)
theorem dX8_constrain_183 : decode cX8_constrain 183 = .ok (.getfield 179, 3) := dk_180 0 179 (dk_at dksX8_constrain_8 2 rfl rfl)
theorem dX8_constrain_186 : decode cX8_constrain 186 = .ok (.invokespecial 182, 3) := dk_183 0 182 (dk_at dksX8_constrain_8 5 rfl rfl)
theorem dX8_constrain_189 : decode cX8_constrain 189 = .ok (.invokevirtual 112, 3) := dk_182 0 112 (dk_at dksX8_constrain_8 8 rfl rfl)
theorem dX8_constrain_192 : decode cX8_constrain 192 = .ok (.pop, 1) := dk_87 (dk_at dksX8_constrain_8 11 rfl rfl)
theorem dX8_constrain_193 : decode cX8_constrain 193 = .ok (.goto 105, 3) := dk_167 0 105 (dk_at dksX8_constrain_8 12 rfl rfl)
theorem dX8_constrain_196 : decode cX8_constrain 196 = .ok (.aload_n 0, 1) := dk_42 (dk_at dksX8_constrain_8 15 rfl rfl)
theorem dX8_constrain_197 : decode cX8_constrain 197 = .ok (.getfield 43, 3) := dk_180 0 43 (dk_at dksX8_constrain_8 16 rfl rfl)
theorem dX8_constrain_200 : decode cX8_constrain 200 = .ok (.getfield 185, 3) := dk_180 0 185 (dk_at dksX8_constrain_8 19 rfl rfl)
theorem dX8_constrain_203 : decode cX8_constrain 203 = .ok (.aload_n 1, 1) := dk_43 (dk_at dksX8_constrain_8 22 rfl rfl)
theorem dX8_constrain_204 : decode cX8_constrain 204 = .ok (.getfield 66, 3) := dk_180 0 66 (dk_at dksX8_constrain_9 0 rfl rfl)
theorem dX8_constrain_207 : decode cX8_constrain 207 = .ok (.invokevirtual 60, 3) := dk_182 0 60 (dk_at dksX8_constrain_9 3 rfl rfl)
theorem dX8_constrain_210 : decode cX8_constrain 210 = .ok (.checkcast 9, 3) := dk_192 0 9 (dk_at dksX8_constrain_9 6 rfl rfl)
theorem dX8_constrain_213 : decode cX8_constrain 213 = .ok (.iload_n 2, 1) := dk_28 (dk_at dksX8_constrain_9 9 rfl rfl)
theorem dX8_constrain_214 : decode cX8_constrain 214 = .ok (.invokevirtual 60, 3) := dk_182 0 60 (dk_at dksX8_constrain_9 10 rfl rfl)
theorem dX8_constrain_217 : decode cX8_constrain 217 = .ok (.checkcast 188, 3) := dk_192 0 188 (dk_at dksX8_constrain_9 13 rfl rfl)
theorem dX8_constrain_220 : decode cX8_constrain 220 = .ok (.aload_n 1, 1) := dk_43 (dk_at dksX8_constrain_9 16 rfl rfl)
theorem dX8_constrain_221 : decode cX8_constrain 221 = .ok (.getfield 190, 3) := dk_180 0 190 (dk_at dksX8_constrain_9 17 rfl rfl)
theorem dX8_constrain_224 : decode cX8_constrain 224 = .ok (.iload_n 3, 1) := dk_29 (dk_at dksX8_constrain_9 20 rfl rfl)
theorem dX8_constrain_225 : decode cX8_constrain 225 = .ok (.invokevirtual 191, 3) := dk_182 0 191 (dk_at dksX8_constrain_9 21 rfl rfl)
theorem dX8_constrain_228 : decode cX8_constrain 228 = .ok (.astore 7, 2) := dk_58 7 (dk_at dksX8_constrain_10 0 rfl rfl)
theorem dX8_constrain_230 : decode cX8_constrain 230 = .ok (.aload_n 0, 1) := dk_42 (dk_at dksX8_constrain_10 2 rfl rfl)
theorem dX8_constrain_231 : decode cX8_constrain 231 = .ok (.getfield 43, 3) := dk_180 0 43 (dk_at dksX8_constrain_10 3 rfl rfl)
theorem dX8_constrain_234 : decode cX8_constrain 234 = .ok (.aload 4, 2) := dk_25 4 (dk_at dksX8_constrain_10 6 rfl rfl)
theorem dX8_constrain_236 : decode cX8_constrain 236 = .ok (.getfield 179, 3) := dk_180 0 179 (dk_at dksX8_constrain_10 8 rfl rfl)
theorem dX8_constrain_239 : decode cX8_constrain 239 = .ok (.aload 7, 2) := dk_25 7 (dk_at dksX8_constrain_10 11 rfl rfl)
theorem dX8_constrain_241 : decode cX8_constrain 241 = .ok (.invokevirtual 195, 3) := dk_182 0 195 (dk_at dksX8_constrain_10 13 rfl rfl)
theorem dX8_constrain_244 : decode cX8_constrain 244 = .ok (.istore 8, 2) := dk_54 8 (dk_at dksX8_constrain_10 16 rfl rfl)
theorem dX8_constrain_246 : decode cX8_constrain 246 = .ok (.aload 6, 2) := dk_25 6 (dk_at dksX8_constrain_10 18 rfl rfl)
theorem dX8_constrain_248 : decode cX8_constrain 248 = .ok (.getfield 162, 3) := dk_180 0 162 (dk_at dksX8_constrain_10 20 rfl rfl)
theorem dX8_constrain_251 : decode cX8_constrain 251 = .ok (.aload_n 0, 1) := dk_42 (dk_at dksX8_constrain_10 23 rfl rfl)
theorem dX8_constrain_252 : decode cX8_constrain 252 = .ok (.aload 4, 2) := dk_25 4 (dk_at dksX8_constrain_11 0 rfl rfl)
theorem dX8_constrain_254 : decode cX8_constrain 254 = .ok (.getfield 179, 3) := dk_180 0 179 (dk_at dksX8_constrain_11 2 rfl rfl)
theorem dX8_constrain_257 : decode cX8_constrain 257 = .ok (.iconst 0, 1) := dk_3 (dk_at dksX8_constrain_11 5 rfl rfl)
theorem dX8_constrain_258 : decode cX8_constrain 258 = .ok (.invokestatic 118, 3) := dk_184 0 118 (dk_at dksX8_constrain_11 6 rfl rfl)
theorem dX8_constrain_261 : decode cX8_constrain 261 = .ok (.iload 8, 2) := dk_21 8 (dk_at dksX8_constrain_11 9 rfl rfl)
theorem dX8_constrain_263 : decode cX8_constrain 263 = .ok (.invokevirtual 140, 3) := dk_182 0 140 (dk_at dksX8_constrain_11 11 rfl rfl)
theorem dX8_constrain_266 : decode cX8_constrain 266 = .ok (.getfield 156, 3) := dk_180 0 156 (dk_at dksX8_constrain_11 14 rfl rfl)
theorem dX8_constrain_269 : decode cX8_constrain 269 = .ok (.invokevirtual 159, 3) := dk_182 0 159 (dk_at dksX8_constrain_11 17 rfl rfl)
theorem dX8_constrain_272 : decode cX8_constrain 272 = .ok (.aload_n 0, 1) := dk_42 (dk_at dksX8_constrain_11 20 rfl rfl)
theorem dX8_constrain_273 : decode cX8_constrain 273 = .ok (.aload 4, 2) := dk_25 4 (dk_at dksX8_constrain_11 21 rfl rfl)
theorem dX8_constrain_275 : decode cX8_constrain 275 = .ok (.getfield 179, 3) := dk_180 0 179 (dk_at dksX8_constrain_12 0 rfl rfl)
theorem dX8_constrain_278 : decode cX8_constrain 278 = .ok (.iconst 1, 1) := dk_4 (dk_at dksX8_constrain_12 3 rfl rfl)
theorem dX8_constrain_279 : decode cX8_constrain 279 = .ok (.invokestatic 118, 3) := dk_184 0 118 (dk_at dksX8_constrain_12 4 rfl rfl)
theorem dX8_constrain_282 : decode cX8_constrain 282 = .ok (.iload 8, 2) := dk_21 8 (dk_at dksX8_constrain_12 7 rfl rfl)
theorem dX8_constrain_284 : decode cX8_constrain 284 = .ok (.invokevirtual 140, 3) := dk_182 0 140 (dk_at dksX8_constrain_12 9 rfl rfl)
theorem dX8_constrain_287 : decode cX8_constrain 287 = .ok (.getfield 162, 3) := dk_180 0 162 (dk_at dksX8_constrain_12 12 rfl rfl)
theorem dX8_constrain_290 : decode cX8_constrain 290 = .ok (.aload 5, 2) := dk_25 5 (dk_at dksX8_constrain_12 15 rfl rfl)
theorem dX8_constrain_292 : decode cX8_constrain 292 = .ok (.getfield 156, 3) := dk_180 0 156 (dk_at dksX8_constrain_12 17 rfl rfl)
theorem dX8_constrain_295 : decode cX8_constrain 295 = .ok (.invokevirtual 159, 3) := dk_182 0 159 (dk_at dksX8_constrain_12 20 rfl rfl)
theorem dX8_constrain_298 : decode cX8_constrain 298 = .ok (.return_, 1) := dk_177 (dk_at dksX8_constrain_12 23 rfl rfl)
abbrev cX8_cell : ByteArray := prog_2_method_4_code
def yX8_cell : MethodName := ⟨RX8, "cell", "(II)LPointerAnalyzer$Cell;"⟩
def dkwX8_cell_1 : List UInt8 := [28, 104, 96, 27, 7, 100, 7, 112, 96, 182, 0, 60, 192, 0, 81, 176]
abbrev dktX8_cell_1 : List UInt8 := dkwX8_cell_1 ++ []
def dkwX8_cell_0 : List UInt8 := [27, 184, 0, 128, 62, 42, 180, 0, 12, 29, 156, 0, 7, 27, 167, 0, 19, 42, 180, 0, 18, 29, 46, 7]
abbrev dktX8_cell_0 : List UInt8 := dkwX8_cell_0 ++ dktX8_cell_1
theorem dksX8_cell_0 : cX8_cell.data.toList.drop 0 = dktX8_cell_0 := by decide +kernel
theorem dksX8_cell_1 : cX8_cell.data.toList.drop 24 = dktX8_cell_1 := dk_seg dksX8_cell_0 24 rfl rfl
theorem dX8_cell_0 : decode cX8_cell 0 = .ok (.iload_n 1, 1) := dk_27 (dk_at dksX8_cell_0 0 rfl rfl)
theorem dX8_cell_1 : decode cX8_cell 1 = .ok (.invokestatic 128, 3) := dk_184 0 128 (dk_at dksX8_cell_0 1 rfl rfl)
theorem dX8_cell_4 : decode cX8_cell 4 = .ok (.istore_n 3, 1) := dk_62 (dk_at dksX8_cell_0 4 rfl rfl)
theorem dX8_cell_5 : decode cX8_cell 5 = .ok (.aload_n 0, 1) := dk_42 (dk_at dksX8_cell_0 5 rfl rfl)
theorem dX8_cell_6 : decode cX8_cell 6 = .ok (.getfield 12, 3) := dk_180 0 12 (dk_at dksX8_cell_0 6 rfl rfl)
theorem dX8_cell_9 : decode cX8_cell 9 = .ok (.iload_n 3, 1) := dk_29 (dk_at dksX8_cell_0 9 rfl rfl)
theorem dX8_cell_10 : decode cX8_cell 10 = .ok (.ifCond .ge 7, 3) := dk_156 0 7 (dk_at dksX8_cell_0 10 rfl rfl)
theorem dX8_cell_13 : decode cX8_cell 13 = .ok (.iload_n 1, 1) := dk_27 (dk_at dksX8_cell_0 13 rfl rfl)
theorem dX8_cell_14 : decode cX8_cell 14 = .ok (.goto 19, 3) := dk_167 0 19 (dk_at dksX8_cell_0 14 rfl rfl)
theorem dX8_cell_17 : decode cX8_cell 17 = .ok (.aload_n 0, 1) := dk_42 (dk_at dksX8_cell_0 17 rfl rfl)
theorem dX8_cell_18 : decode cX8_cell 18 = .ok (.getfield 18, 3) := dk_180 0 18 (dk_at dksX8_cell_0 18 rfl rfl)
theorem dX8_cell_21 : decode cX8_cell 21 = .ok (.iload_n 3, 1) := dk_29 (dk_at dksX8_cell_0 21 rfl rfl)
theorem dX8_cell_22 : decode cX8_cell 22 = .ok (.iaload, 1) := dk_46 (dk_at dksX8_cell_0 22 rfl rfl)
theorem dX8_cell_23 : decode cX8_cell 23 = .ok (.iconst 4, 1) := dk_7 (dk_at dksX8_cell_0 23 rfl rfl)
theorem dX8_cell_24 : decode cX8_cell 24 = .ok (.iload_n 2, 1) := dk_28 (dk_at dksX8_cell_1 0 rfl rfl)
theorem dX8_cell_25 : decode cX8_cell 25 = .ok (.imul, 1) := dk_104 (dk_at dksX8_cell_1 1 rfl rfl)
theorem dX8_cell_26 : decode cX8_cell 26 = .ok (.iadd, 1) := dk_96 (dk_at dksX8_cell_1 2 rfl rfl)
theorem dX8_cell_27 : decode cX8_cell 27 = .ok (.iload_n 1, 1) := dk_27 (dk_at dksX8_cell_1 3 rfl rfl)
theorem dX8_cell_28 : decode cX8_cell 28 = .ok (.iconst 4, 1) := dk_7 (dk_at dksX8_cell_1 4 rfl rfl)
theorem dX8_cell_29 : decode cX8_cell 29 = .ok (.isub, 1) := dk_100 (dk_at dksX8_cell_1 5 rfl rfl)
theorem dX8_cell_30 : decode cX8_cell 30 = .ok (.iconst 4, 1) := dk_7 (dk_at dksX8_cell_1 6 rfl rfl)
theorem dX8_cell_31 : decode cX8_cell 31 = .ok (.irem, 1) := dk_112 (dk_at dksX8_cell_1 7 rfl rfl)
theorem dX8_cell_32 : decode cX8_cell 32 = .ok (.iadd, 1) := dk_96 (dk_at dksX8_cell_1 8 rfl rfl)
theorem dX8_cell_33 : decode cX8_cell 33 = .ok (.invokevirtual 60, 3) := dk_182 0 60 (dk_at dksX8_cell_1 9 rfl rfl)
theorem dX8_cell_36 : decode cX8_cell 36 = .ok (.checkcast 81, 3) := dk_192 0 81 (dk_at dksX8_cell_1 12 rfl rfl)
theorem dX8_cell_39 : decode cX8_cell 39 = .ok (.areturn, 1) := dk_176 (dk_at dksX8_cell_1 15 rfl rfl)
abbrev cX8_collapse : ByteArray := prog_2_method_6_code
def yX8_collapse : MethodName := ⟨RX8, "collapse", "()V"⟩
def dkwX8_collapse_5 : List UInt8 := [29, 50, 21, 5, 4, 96, 182, 0, 203, 54, 5, 167, 255, 192, 132, 3, 1, 167, 255, 159, 177]
abbrev dktX8_collapse_5 : List UInt8 := dkwX8_collapse_5 ++ []
def dkwX8_collapse_4 : List UInt8 := [166, 0, 23, 25, 4, 42, 180, 0, 12, 21, 5, 182, 0, 60, 192, 0, 81, 182, 0, 213, 184, 0, 217, 44]
abbrev dktX8_collapse_4 : List UInt8 := dkwX8_collapse_4 ++ dktX8_collapse_5
def dkwX8_collapse_3 : List UInt8 := [29, 162, 0, 59, 44, 21, 5, 50, 29, 182, 0, 206, 153, 0, 33, 25, 4, 180, 0, 209, 25, 4]
abbrev dktX8_collapse_3 : List UInt8 := dkwX8_collapse_3 ++ dktX8_collapse_4
def dkwX8_collapse_2 : List UInt8 := [182, 0, 60, 192, 0, 81, 58, 4, 44, 29, 50, 3, 182, 0, 203, 54, 5, 21, 5, 155, 0, 65, 21, 5]
abbrev dktX8_collapse_2 : List UInt8 := dkwX8_collapse_2 ++ dktX8_collapse_3
def dkwX8_collapse_1 : List UInt8 := [182, 0, 199, 83, 132, 3, 1, 167, 255, 240, 3, 62, 29, 27, 162, 0, 98, 42, 180, 0, 12, 29]
abbrev dktX8_collapse_1 : List UInt8 := dkwX8_collapse_1 ++ dktX8_collapse_2
def dkwX8_collapse_0 : List UInt8 := [42, 180, 0, 12, 182, 0, 56, 60, 27, 189, 0, 88, 77, 3, 62, 29, 27, 162, 0, 17, 44, 29, 42, 29]
abbrev dktX8_collapse_0 : List UInt8 := dkwX8_collapse_0 ++ dktX8_collapse_1
theorem dksX8_collapse_0 : cX8_collapse.data.toList.drop 0 = dktX8_collapse_0 := by decide +kernel
theorem dksX8_collapse_1 : cX8_collapse.data.toList.drop 24 = dktX8_collapse_1 := dk_seg dksX8_collapse_0 24 rfl rfl
theorem dksX8_collapse_2 : cX8_collapse.data.toList.drop 46 = dktX8_collapse_2 := dk_seg dksX8_collapse_1 22 rfl rfl
theorem dksX8_collapse_3 : cX8_collapse.data.toList.drop 70 = dktX8_collapse_3 := dk_seg dksX8_collapse_2 24 rfl rfl
theorem dksX8_collapse_4 : cX8_collapse.data.toList.drop 92 = dktX8_collapse_4 := dk_seg dksX8_collapse_3 22 rfl rfl
theorem dksX8_collapse_5 : cX8_collapse.data.toList.drop 116 = dktX8_collapse_5 := dk_seg dksX8_collapse_4 24 rfl rfl
theorem dX8_collapse_0 : decode cX8_collapse 0 = .ok (.aload_n 0, 1) := dk_42 (dk_at dksX8_collapse_0 0 rfl rfl)
theorem dX8_collapse_1 : decode cX8_collapse 1 = .ok (.getfield 12, 3) := dk_180 0 12 (dk_at dksX8_collapse_0 1 rfl rfl)
theorem dX8_collapse_4 : decode cX8_collapse 4 = .ok (.invokevirtual 56, 3) := dk_182 0 56 (dk_at dksX8_collapse_0 4 rfl rfl)
theorem dX8_collapse_7 : decode cX8_collapse 7 = .ok (.istore_n 1, 1) := dk_60 (dk_at dksX8_collapse_0 7 rfl rfl)
theorem dX8_collapse_8 : decode cX8_collapse 8 = .ok (.iload_n 1, 1) := dk_27 (dk_at dksX8_collapse_0 8 rfl rfl)
theorem dX8_collapse_9 : decode cX8_collapse 9 = .ok (.anewarray 88, 3) := dk_189 0 88 (dk_at dksX8_collapse_0 9 rfl rfl)
theorem dX8_collapse_12 : decode cX8_collapse 12 = .ok (.astore_n 2, 1) := dk_77 (dk_at dksX8_collapse_0 12 rfl rfl)
theorem dX8_collapse_13 : decode cX8_collapse 13 = .ok (.iconst 0, 1) := dk_3 (dk_at dksX8_collapse_0 13 rfl rfl)
theorem dX8_collapse_14 : decode cX8_collapse 14 = .ok (.istore_n 3, 1) := dk_62 (dk_at dksX8_collapse_0 14 rfl rfl)
theorem dX8_collapse_15 : decode cX8_collapse 15 = .ok (.iload_n 3, 1) := dk_29 (dk_at dksX8_collapse_0 15 rfl rfl)
theorem dX8_collapse_16 : decode cX8_collapse 16 = .ok (.iload_n 1, 1) := dk_27 (dk_at dksX8_collapse_0 16 rfl rfl)
theorem dX8_collapse_17 : decode cX8_collapse 17 = .ok (.if_icmp .ge 17, 3) := dk_162 0 17 (dk_at dksX8_collapse_0 17 rfl rfl)
theorem dX8_collapse_20 : decode cX8_collapse 20 = .ok (.aload_n 2, 1) := dk_44 (dk_at dksX8_collapse_0 20 rfl rfl)
theorem dX8_collapse_21 : decode cX8_collapse 21 = .ok (.iload_n 3, 1) := dk_29 (dk_at dksX8_collapse_0 21 rfl rfl)
theorem dX8_collapse_22 : decode cX8_collapse 22 = .ok (.aload_n 0, 1) := dk_42 (dk_at dksX8_collapse_0 22 rfl rfl)
theorem dX8_collapse_23 : decode cX8_collapse 23 = .ok (.iload_n 3, 1) := dk_29 (dk_at dksX8_collapse_0 23 rfl rfl)
theorem dX8_collapse_24 : decode cX8_collapse 24 = .ok (.invokevirtual 199, 3) := dk_182 0 199 (dk_at dksX8_collapse_1 0 rfl rfl)
theorem dX8_collapse_27 : decode cX8_collapse 27 = .ok (.aastore, 1) := dk_83 (dk_at dksX8_collapse_1 3 rfl rfl)
theorem dX8_collapse_28 : decode cX8_collapse 28 = .ok (.iinc 3 1, 3) := dk_132 3 1 (dk_at dksX8_collapse_1 4 rfl rfl)
theorem dX8_collapse_31 : decode cX8_collapse 31 = .ok (.goto (-16), 3) := dk_167 255 240 (dk_at dksX8_collapse_1 7 rfl rfl)
theorem dX8_collapse_34 : decode cX8_collapse 34 = .ok (.iconst 0, 1) := dk_3 (dk_at dksX8_collapse_1 10 rfl rfl)
theorem dX8_collapse_35 : decode cX8_collapse 35 = .ok (.istore_n 3, 1) := dk_62 (dk_at dksX8_collapse_1 11 rfl rfl)
theorem dX8_collapse_36 : decode cX8_collapse 36 = .ok (.iload_n 3, 1) := dk_29 (dk_at dksX8_collapse_1 12 rfl rfl)
theorem dX8_collapse_37 : decode cX8_collapse 37 = .ok (.iload_n 1, 1) := dk_27 (dk_at dksX8_collapse_1 13 rfl rfl)
theorem dX8_collapse_38 : decode cX8_collapse 38 = .ok (.if_icmp .ge 98, 3) := dk_162 0 98 (dk_at dksX8_collapse_1 14 rfl rfl)
theorem dX8_collapse_41 : decode cX8_collapse 41 = .ok (.aload_n 0, 1) := dk_42 (dk_at dksX8_collapse_1 17 rfl rfl)
theorem dX8_collapse_42 : decode cX8_collapse 42 = .ok (.getfield 12, 3) := dk_180 0 12 (dk_at dksX8_collapse_1 18 rfl rfl)
theorem dX8_collapse_45 : decode cX8_collapse 45 = .ok (.iload_n 3, 1) := dk_29 (dk_at dksX8_collapse_1 21 rfl rfl)
theorem dX8_collapse_46 : decode cX8_collapse 46 = .ok (.invokevirtual 60, 3) := dk_182 0 60 (dk_at dksX8_collapse_2 0 rfl rfl)
theorem dX8_collapse_49 : decode cX8_collapse 49 = .ok (.checkcast 81, 3) := dk_192 0 81 (dk_at dksX8_collapse_2 3 rfl rfl)
theorem dX8_collapse_52 : decode cX8_collapse 52 = .ok (.astore 4, 2) := dk_58 4 (dk_at dksX8_collapse_2 6 rfl rfl)
theorem dX8_collapse_54 : decode cX8_collapse 54 = .ok (.aload_n 2, 1) := dk_44 (dk_at dksX8_collapse_2 8 rfl rfl)
theorem dX8_collapse_55 : decode cX8_collapse 55 = .ok (.iload_n 3, 1) := dk_29 (dk_at dksX8_collapse_2 9 rfl rfl)
theorem dX8_collapse_56 : decode cX8_collapse 56 = .ok (.aaload, 1) := dk_50 (dk_at dksX8_collapse_2 10 rfl rfl)
theorem dX8_collapse_57 : decode cX8_collapse 57 = .ok (.iconst 0, 1) := dk_3 (dk_at dksX8_collapse_2 11 rfl rfl)
theorem dX8_collapse_58 : decode cX8_collapse 58 = .ok (.invokevirtual 203, 3) := dk_182 0 203 (dk_at dksX8_collapse_2 12 rfl rfl)
theorem dX8_collapse_61 : decode cX8_collapse 61 = .ok (.istore 5, 2) := dk_54 5 (dk_at dksX8_collapse_2 15 rfl rfl)
theorem dX8_collapse_63 : decode cX8_collapse 63 = .ok (.iload 5, 2) := dk_21 5 (dk_at dksX8_collapse_2 17 rfl rfl)
theorem dX8_collapse_65 : decode cX8_collapse 65 = .ok (.ifCond .lt 65, 3) := dk_155 0 65 (dk_at dksX8_collapse_2 19 rfl rfl)
theorem dX8_collapse_68 : decode cX8_collapse 68 = .ok (.iload 5, 2) := dk_21 5 (dk_at dksX8_collapse_2 22 rfl rfl)
theorem dX8_collapse_70 : decode cX8_collapse 70 = .ok (.iload_n 3, 1) := dk_29 (dk_at dksX8_collapse_3 0 rfl rfl)
theorem dX8_collapse_71 : decode cX8_collapse 71 = .ok (.if_icmp .ge 59, 3) := dk_162 0 59 (dk_at dksX8_collapse_3 1 rfl rfl)
theorem dX8_collapse_74 : decode cX8_collapse 74 = .ok (.aload_n 2, 1) := dk_44 (dk_at dksX8_collapse_3 4 rfl rfl)
theorem dX8_collapse_75 : decode cX8_collapse 75 = .ok (.iload 5, 2) := dk_21 5 (dk_at dksX8_collapse_3 5 rfl rfl)
theorem dX8_collapse_77 : decode cX8_collapse 77 = .ok (.aaload, 1) := dk_50 (dk_at dksX8_collapse_3 7 rfl rfl)
theorem dX8_collapse_78 : decode cX8_collapse 78 = .ok (.iload_n 3, 1) := dk_29 (dk_at dksX8_collapse_3 8 rfl rfl)
theorem dX8_collapse_79 : decode cX8_collapse 79 = .ok (.invokevirtual 206, 3) := dk_182 0 206 (dk_at dksX8_collapse_3 9 rfl rfl)
theorem dX8_collapse_82 : decode cX8_collapse 82 = .ok (.ifCond .eq 33, 3) := dk_153 0 33 (dk_at dksX8_collapse_3 12 rfl rfl)
theorem dX8_collapse_85 : decode cX8_collapse 85 = .ok (.aload 4, 2) := dk_25 4 (dk_at dksX8_collapse_3 15 rfl rfl)
theorem dX8_collapse_87 : decode cX8_collapse 87 = .ok (.getfield 209, 3) := dk_180 0 209 (dk_at dksX8_collapse_3 17 rfl rfl)
theorem dX8_collapse_90 : decode cX8_collapse 90 = .ok (.aload 4, 2) := dk_25 4 (dk_at dksX8_collapse_3 20 rfl rfl)
theorem dX8_collapse_92 : decode cX8_collapse 92 = .ok (.if_acmp .ne 23, 3) := dk_166 0 23 (dk_at dksX8_collapse_4 0 rfl rfl)
theorem dX8_collapse_95 : decode cX8_collapse 95 = .ok (.aload 4, 2) := dk_25 4 (dk_at dksX8_collapse_4 3 rfl rfl)
theorem dX8_collapse_97 : decode cX8_collapse 97 = .ok (.aload_n 0, 1) := dk_42 (dk_at dksX8_collapse_4 5 rfl rfl)
theorem dX8_collapse_98 : decode cX8_collapse 98 = .ok (.getfield 12, 3) := dk_180 0 12 (dk_at dksX8_collapse_4 6 rfl rfl)
theorem dX8_collapse_101 : decode cX8_collapse 101 = .ok (.iload 5, 2) := dk_21 5 (dk_at dksX8_collapse_4 9 rfl rfl)
theorem dX8_collapse_103 : decode cX8_collapse 103 = .ok (.invokevirtual 60, 3) := dk_182 0 60 (dk_at dksX8_collapse_4 11 rfl rfl)
theorem dX8_collapse_106 : decode cX8_collapse 106 = .ok (.checkcast 81, 3) := dk_192 0 81 (dk_at dksX8_collapse_4 14 rfl rfl)
theorem dX8_collapse_109 : decode cX8_collapse 109 = .ok (.invokevirtual 213, 3) := dk_182 0 213 (dk_at dksX8_collapse_4 17 rfl rfl)
theorem dX8_collapse_112 : decode cX8_collapse 112 = .ok (.invokestatic 217, 3) := dk_184 0 217 (dk_at dksX8_collapse_4 20 rfl rfl)
theorem dX8_collapse_115 : decode cX8_collapse 115 = .ok (.aload_n 2, 1) := dk_44 (dk_at dksX8_collapse_4 23 rfl rfl)
theorem dX8_collapse_116 : decode cX8_collapse 116 = .ok (.iload_n 3, 1) := dk_29 (dk_at dksX8_collapse_5 0 rfl rfl)
theorem dX8_collapse_117 : decode cX8_collapse 117 = .ok (.aaload, 1) := dk_50 (dk_at dksX8_collapse_5 1 rfl rfl)
theorem dX8_collapse_118 : decode cX8_collapse 118 = .ok (.iload 5, 2) := dk_21 5 (dk_at dksX8_collapse_5 2 rfl rfl)
theorem dX8_collapse_120 : decode cX8_collapse 120 = .ok (.iconst 1, 1) := dk_4 (dk_at dksX8_collapse_5 4 rfl rfl)
theorem dX8_collapse_121 : decode cX8_collapse 121 = .ok (.iadd, 1) := dk_96 (dk_at dksX8_collapse_5 5 rfl rfl)
theorem dX8_collapse_122 : decode cX8_collapse 122 = .ok (.invokevirtual 203, 3) := dk_182 0 203 (dk_at dksX8_collapse_5 6 rfl rfl)
theorem dX8_collapse_125 : decode cX8_collapse 125 = .ok (.istore 5, 2) := dk_54 5 (dk_at dksX8_collapse_5 9 rfl rfl)
theorem dX8_collapse_127 : decode cX8_collapse 127 = .ok (.goto (-64), 3) := dk_167 255 192 (dk_at dksX8_collapse_5 11 rfl rfl)
theorem dX8_collapse_130 : decode cX8_collapse 130 = .ok (.iinc 3 1, 3) := dk_132 3 1 (dk_at dksX8_collapse_5 14 rfl rfl)
theorem dX8_collapse_133 : decode cX8_collapse 133 = .ok (.goto (-97), 3) := dk_167 255 159 (dk_at dksX8_collapse_5 17 rfl rfl)
theorem dX8_collapse_136 : decode cX8_collapse 136 = .ok (.return_, 1) := dk_177 (dk_at dksX8_collapse_5 20 rfl rfl)
abbrev cX8_reachedFrom : ByteArray := prog_2_method_7_code
def yX8_reachedFrom : MethodName := ⟨RX8, "reachedFrom", "(I)Ljava/util/BitSet;"⟩
def dkwX8_reachedFrom_3 : List UInt8 := [180, 0, 162, 182, 0, 228, 45, 44, 182, 0, 232, 167, 255, 206, 44, 176]
abbrev dktX8_reachedFrom_3 : List UInt8 := dkwX8_reachedFrom_3 ++ []
def dkwX8_reachedFrom_2 : List UInt8 := [182, 0, 225, 44, 21, 4, 182, 0, 159, 45, 42, 180, 0, 12, 21, 4, 182, 0, 60, 192, 0, 81]
abbrev dktX8_reachedFrom_2 : List UInt8 := dkwX8_reachedFrom_2 ++ dktX8_reachedFrom_3
def dkwX8_reachedFrom_1 : List UInt8 := [182, 0, 222, 192, 0, 88, 78, 45, 182, 0, 87, 154, 0, 49, 45, 3, 182, 0, 203, 54, 4, 45, 21, 4]
abbrev dktX8_reachedFrom_1 : List UInt8 := dkwX8_reachedFrom_1 ++ dktX8_reachedFrom_2
def dkwX8_reachedFrom_0 : List UInt8 := [187, 0, 88, 89, 183, 0, 221, 77, 42, 180, 0, 12, 27, 182, 0, 60, 192, 0, 81, 180, 0, 162]
abbrev dktX8_reachedFrom_0 : List UInt8 := dkwX8_reachedFrom_0 ++ dktX8_reachedFrom_1
theorem dksX8_reachedFrom_0 : cX8_reachedFrom.data.toList.drop 0 = dktX8_reachedFrom_0 := by decide +kernel
theorem dksX8_reachedFrom_1 : cX8_reachedFrom.data.toList.drop 22 = dktX8_reachedFrom_1 := dk_seg dksX8_reachedFrom_0 22 rfl rfl
theorem dksX8_reachedFrom_2 : cX8_reachedFrom.data.toList.drop 46 = dktX8_reachedFrom_2 := dk_seg dksX8_reachedFrom_1 24 rfl rfl
theorem dksX8_reachedFrom_3 : cX8_reachedFrom.data.toList.drop 68 = dktX8_reachedFrom_3 := dk_seg dksX8_reachedFrom_2 22 rfl rfl
theorem dX8_reachedFrom_0 : decode cX8_reachedFrom 0 = .ok (.new 88, 3) := dk_187 0 88 (dk_at dksX8_reachedFrom_0 0 rfl rfl)
theorem dX8_reachedFrom_3 : decode cX8_reachedFrom 3 = .ok (.dup, 1) := dk_89 (dk_at dksX8_reachedFrom_0 3 rfl rfl)
theorem dX8_reachedFrom_4 : decode cX8_reachedFrom 4 = .ok (.invokespecial 221, 3) := dk_183 0 221 (dk_at dksX8_reachedFrom_0 4 rfl rfl)
theorem dX8_reachedFrom_7 : decode cX8_reachedFrom 7 = .ok (.astore_n 2, 1) := dk_77 (dk_at dksX8_reachedFrom_0 7 rfl rfl)
theorem dX8_reachedFrom_8 : decode cX8_reachedFrom 8 = .ok (.aload_n 0, 1) := dk_42 (dk_at dksX8_reachedFrom_0 8 rfl rfl)
theorem dX8_reachedFrom_9 : decode cX8_reachedFrom 9 = .ok (.getfield 12, 3) := dk_180 0 12 (dk_at dksX8_reachedFrom_0 9 rfl rfl)
theorem dX8_reachedFrom_12 : decode cX8_reachedFrom 12 = .ok (.iload_n 1, 1) := dk_27 (dk_at dksX8_reachedFrom_0 12 rfl rfl)
theorem dX8_reachedFrom_13 : decode cX8_reachedFrom 13 = .ok (.invokevirtual 60, 3) := dk_182 0 60 (dk_at dksX8_reachedFrom_0 13 rfl rfl)
theorem dX8_reachedFrom_16 : decode cX8_reachedFrom 16 = .ok (.checkcast 81, 3) := dk_192 0 81 (dk_at dksX8_reachedFrom_0 16 rfl rfl)
theorem dX8_reachedFrom_19 : decode cX8_reachedFrom 19 = .ok (.getfield 162, 3) := dk_180 0 162 (dk_at dksX8_reachedFrom_0 19 rfl rfl)
theorem dX8_reachedFrom_22 : decode cX8_reachedFrom 22 = .ok (.invokevirtual 222, 3) := dk_182 0 222 (dk_at dksX8_reachedFrom_1 0 rfl rfl)
theorem dX8_reachedFrom_25 : decode cX8_reachedFrom 25 = .ok (.checkcast 88, 3) := dk_192 0 88 (dk_at dksX8_reachedFrom_1 3 rfl rfl)
theorem dX8_reachedFrom_28 : decode cX8_reachedFrom 28 = .ok (.astore_n 3, 1) := dk_78 (dk_at dksX8_reachedFrom_1 6 rfl rfl)
theorem dX8_reachedFrom_29 : decode cX8_reachedFrom 29 = .ok (.aload_n 3, 1) := dk_45 (dk_at dksX8_reachedFrom_1 7 rfl rfl)
theorem dX8_reachedFrom_30 : decode cX8_reachedFrom 30 = .ok (.invokevirtual 87, 3) := dk_182 0 87 (dk_at dksX8_reachedFrom_1 8 rfl rfl)
theorem dX8_reachedFrom_33 : decode cX8_reachedFrom 33 = .ok (.ifCond .ne 49, 3) := dk_154 0 49 (dk_at dksX8_reachedFrom_1 11 rfl rfl)
theorem dX8_reachedFrom_36 : decode cX8_reachedFrom 36 = .ok (.aload_n 3, 1) := dk_45 (dk_at dksX8_reachedFrom_1 14 rfl rfl)
theorem dX8_reachedFrom_37 : decode cX8_reachedFrom 37 = .ok (.iconst 0, 1) := dk_3 (dk_at dksX8_reachedFrom_1 15 rfl rfl)
theorem dX8_reachedFrom_38 : decode cX8_reachedFrom 38 = .ok (.invokevirtual 203, 3) := dk_182 0 203 (dk_at dksX8_reachedFrom_1 16 rfl rfl)
theorem dX8_reachedFrom_41 : decode cX8_reachedFrom 41 = .ok (.istore 4, 2) := dk_54 4 (dk_at dksX8_reachedFrom_1 19 rfl rfl)
theorem dX8_reachedFrom_43 : decode cX8_reachedFrom 43 = .ok (.aload_n 3, 1) := dk_45 (dk_at dksX8_reachedFrom_1 21 rfl rfl)
theorem dX8_reachedFrom_44 : decode cX8_reachedFrom 44 = .ok (.iload 4, 2) := dk_21 4 (dk_at dksX8_reachedFrom_1 22 rfl rfl)
theorem dX8_reachedFrom_46 : decode cX8_reachedFrom 46 = .ok (.invokevirtual 225, 3) := dk_182 0 225 (dk_at dksX8_reachedFrom_2 0 rfl rfl)
theorem dX8_reachedFrom_49 : decode cX8_reachedFrom 49 = .ok (.aload_n 2, 1) := dk_44 (dk_at dksX8_reachedFrom_2 3 rfl rfl)
theorem dX8_reachedFrom_50 : decode cX8_reachedFrom 50 = .ok (.iload 4, 2) := dk_21 4 (dk_at dksX8_reachedFrom_2 4 rfl rfl)
theorem dX8_reachedFrom_52 : decode cX8_reachedFrom 52 = .ok (.invokevirtual 159, 3) := dk_182 0 159 (dk_at dksX8_reachedFrom_2 6 rfl rfl)
theorem dX8_reachedFrom_55 : decode cX8_reachedFrom 55 = .ok (.aload_n 3, 1) := dk_45 (dk_at dksX8_reachedFrom_2 9 rfl rfl)
theorem dX8_reachedFrom_56 : decode cX8_reachedFrom 56 = .ok (.aload_n 0, 1) := dk_42 (dk_at dksX8_reachedFrom_2 10 rfl rfl)
theorem dX8_reachedFrom_57 : decode cX8_reachedFrom 57 = .ok (.getfield 12, 3) := dk_180 0 12 (dk_at dksX8_reachedFrom_2 11 rfl rfl)
theorem dX8_reachedFrom_60 : decode cX8_reachedFrom 60 = .ok (.iload 4, 2) := dk_21 4 (dk_at dksX8_reachedFrom_2 14 rfl rfl)
theorem dX8_reachedFrom_62 : decode cX8_reachedFrom 62 = .ok (.invokevirtual 60, 3) := dk_182 0 60 (dk_at dksX8_reachedFrom_2 16 rfl rfl)
theorem dX8_reachedFrom_65 : decode cX8_reachedFrom 65 = .ok (.checkcast 81, 3) := dk_192 0 81 (dk_at dksX8_reachedFrom_2 19 rfl rfl)
theorem dX8_reachedFrom_68 : decode cX8_reachedFrom 68 = .ok (.getfield 162, 3) := dk_180 0 162 (dk_at dksX8_reachedFrom_3 0 rfl rfl)
theorem dX8_reachedFrom_71 : decode cX8_reachedFrom 71 = .ok (.invokevirtual 228, 3) := dk_182 0 228 (dk_at dksX8_reachedFrom_3 3 rfl rfl)
theorem dX8_reachedFrom_74 : decode cX8_reachedFrom 74 = .ok (.aload_n 3, 1) := dk_45 (dk_at dksX8_reachedFrom_3 6 rfl rfl)
theorem dX8_reachedFrom_75 : decode cX8_reachedFrom 75 = .ok (.aload_n 2, 1) := dk_44 (dk_at dksX8_reachedFrom_3 7 rfl rfl)
theorem dX8_reachedFrom_76 : decode cX8_reachedFrom 76 = .ok (.invokevirtual 232, 3) := dk_182 0 232 (dk_at dksX8_reachedFrom_3 8 rfl rfl)
theorem dX8_reachedFrom_79 : decode cX8_reachedFrom 79 = .ok (.goto (-50), 3) := dk_167 255 206 (dk_at dksX8_reachedFrom_3 11 rfl rfl)
theorem dX8_reachedFrom_82 : decode cX8_reachedFrom 82 = .ok (.aload_n 2, 1) := dk_44 (dk_at dksX8_reachedFrom_3 14 rfl rfl)
theorem dX8_reachedFrom_83 : decode cX8_reachedFrom 83 = .ok (.areturn, 1) := dk_176 (dk_at dksX8_reachedFrom_3 15 rfl rfl)
abbrev cX8_merge : ByteArray := prog_2_method_8_code
def yX8_merge : MethodName := ⟨RX8, "merge", "(LPointerAnalyzer$Cell;LPointerAnalyzer$Cell;)V"⟩
def dkwX8_merge_2 : List UInt8 := [182, 0, 235, 87, 43, 180, 0, 174, 42, 180, 0, 174, 182, 0, 235, 87, 177]
abbrev dktX8_merge_2 : List UInt8 := dkwX8_merge_2 ++ []
def dkwX8_merge_1 : List UInt8 := [182, 0, 228, 43, 180, 0, 165, 42, 180, 0, 165, 182, 0, 235, 87, 43, 180, 0, 168, 42, 180, 0, 168]
abbrev dktX8_merge_1 : List UInt8 := dkwX8_merge_1 ++ dktX8_merge_2
def dkwX8_merge_0 : List UInt8 := [42, 43, 181, 0, 209, 43, 180, 0, 83, 42, 180, 0, 83, 182, 0, 228, 43, 180, 0, 162, 42, 180, 0, 162]
abbrev dktX8_merge_0 : List UInt8 := dkwX8_merge_0 ++ dktX8_merge_1
theorem dksX8_merge_0 : cX8_merge.data.toList.drop 0 = dktX8_merge_0 := by decide +kernel
theorem dksX8_merge_1 : cX8_merge.data.toList.drop 24 = dktX8_merge_1 := dk_seg dksX8_merge_0 24 rfl rfl
theorem dksX8_merge_2 : cX8_merge.data.toList.drop 47 = dktX8_merge_2 := dk_seg dksX8_merge_1 23 rfl rfl
theorem dX8_merge_0 : decode cX8_merge 0 = .ok (.aload_n 0, 1) := dk_42 (dk_at dksX8_merge_0 0 rfl rfl)
theorem dX8_merge_1 : decode cX8_merge 1 = .ok (.aload_n 1, 1) := dk_43 (dk_at dksX8_merge_0 1 rfl rfl)
theorem dX8_merge_2 : decode cX8_merge 2 = .ok (.putfield 209, 3) := dk_181 0 209 (dk_at dksX8_merge_0 2 rfl rfl)
theorem dX8_merge_5 : decode cX8_merge 5 = .ok (.aload_n 1, 1) := dk_43 (dk_at dksX8_merge_0 5 rfl rfl)
theorem dX8_merge_6 : decode cX8_merge 6 = .ok (.getfield 83, 3) := dk_180 0 83 (dk_at dksX8_merge_0 6 rfl rfl)
theorem dX8_merge_9 : decode cX8_merge 9 = .ok (.aload_n 0, 1) := dk_42 (dk_at dksX8_merge_0 9 rfl rfl)
theorem dX8_merge_10 : decode cX8_merge 10 = .ok (.getfield 83, 3) := dk_180 0 83 (dk_at dksX8_merge_0 10 rfl rfl)
theorem dX8_merge_13 : decode cX8_merge 13 = .ok (.invokevirtual 228, 3) := dk_182 0 228 (dk_at dksX8_merge_0 13 rfl rfl)
theorem dX8_merge_16 : decode cX8_merge 16 = .ok (.aload_n 1, 1) := dk_43 (dk_at dksX8_merge_0 16 rfl rfl)
theorem dX8_merge_17 : decode cX8_merge 17 = .ok (.getfield 162, 3) := dk_180 0 162 (dk_at dksX8_merge_0 17 rfl rfl)
theorem dX8_merge_20 : decode cX8_merge 20 = .ok (.aload_n 0, 1) := dk_42 (dk_at dksX8_merge_0 20 rfl rfl)
theorem dX8_merge_21 : decode cX8_merge 21 = .ok (.getfield 162, 3) := dk_180 0 162 (dk_at dksX8_merge_0 21 rfl rfl)
theorem dX8_merge_24 : decode cX8_merge 24 = .ok (.invokevirtual 228, 3) := dk_182 0 228 (dk_at dksX8_merge_1 0 rfl rfl)
theorem dX8_merge_27 : decode cX8_merge 27 = .ok (.aload_n 1, 1) := dk_43 (dk_at dksX8_merge_1 3 rfl rfl)
theorem dX8_merge_28 : decode cX8_merge 28 = .ok (.getfield 165, 3) := dk_180 0 165 (dk_at dksX8_merge_1 4 rfl rfl)
theorem dX8_merge_31 : decode cX8_merge 31 = .ok (.aload_n 0, 1) := dk_42 (dk_at dksX8_merge_1 7 rfl rfl)
theorem dX8_merge_32 : decode cX8_merge 32 = .ok (.getfield 165, 3) := dk_180 0 165 (dk_at dksX8_merge_1 8 rfl rfl)
theorem dX8_merge_35 : decode cX8_merge 35 = .ok (.invokevirtual 235, 3) := dk_182 0 235 (dk_at dksX8_merge_1 11 rfl rfl)
theorem dX8_merge_38 : decode cX8_merge 38 = .ok (.pop, 1) := dk_87 (dk_at dksX8_merge_1 14 rfl rfl)
theorem dX8_merge_39 : decode cX8_merge 39 = .ok (.aload_n 1, 1) := dk_43 (dk_at dksX8_merge_1 15 rfl rfl)
theorem dX8_merge_40 : decode cX8_merge 40 = .ok (.getfield 168, 3) := dk_180 0 168 (dk_at dksX8_merge_1 16 rfl rfl)
theorem dX8_merge_43 : decode cX8_merge 43 = .ok (.aload_n 0, 1) := dk_42 (dk_at dksX8_merge_1 19 rfl rfl)
theorem dX8_merge_44 : decode cX8_merge 44 = .ok (.getfield 168, 3) := dk_180 0 168 (dk_at dksX8_merge_1 20 rfl rfl)
theorem dX8_merge_47 : decode cX8_merge 47 = .ok (.invokevirtual 235, 3) := dk_182 0 235 (dk_at dksX8_merge_2 0 rfl rfl)
theorem dX8_merge_50 : decode cX8_merge 50 = .ok (.pop, 1) := dk_87 (dk_at dksX8_merge_2 3 rfl rfl)
theorem dX8_merge_51 : decode cX8_merge 51 = .ok (.aload_n 1, 1) := dk_43 (dk_at dksX8_merge_2 4 rfl rfl)
theorem dX8_merge_52 : decode cX8_merge 52 = .ok (.getfield 174, 3) := dk_180 0 174 (dk_at dksX8_merge_2 5 rfl rfl)
theorem dX8_merge_55 : decode cX8_merge 55 = .ok (.aload_n 0, 1) := dk_42 (dk_at dksX8_merge_2 8 rfl rfl)
theorem dX8_merge_56 : decode cX8_merge 56 = .ok (.getfield 174, 3) := dk_180 0 174 (dk_at dksX8_merge_2 9 rfl rfl)
theorem dX8_merge_59 : decode cX8_merge 59 = .ok (.invokevirtual 235, 3) := dk_182 0 235 (dk_at dksX8_merge_2 12 rfl rfl)
theorem dX8_merge_62 : decode cX8_merge 62 = .ok (.pop, 1) := dk_87 (dk_at dksX8_merge_2 15 rfl rfl)
theorem dX8_merge_63 : decode cX8_merge 63 = .ok (.return_, 1) := dk_177 (dk_at dksX8_merge_2 16 rfl rfl)
abbrev cX8_push : ByteArray := prog_2_method_9_code
def yX8_push : MethodName := ⟨RX8, "push", "(LPointerAnalyzer$Cell;)V"⟩
def dkwX8_push_1 : List UInt8 := [182, 0, 239, 87, 177]
abbrev dktX8_push_1 : List UInt8 := dkwX8_push_1 ++ []
def dkwX8_push_0 : List UInt8 := [43, 182, 0, 213, 77, 44, 180, 0, 102, 154, 0, 17, 44, 4, 181, 0, 102, 42, 180, 0, 30, 44]
abbrev dktX8_push_0 : List UInt8 := dkwX8_push_0 ++ dktX8_push_1
theorem dksX8_push_0 : cX8_push.data.toList.drop 0 = dktX8_push_0 := by decide +kernel
theorem dksX8_push_1 : cX8_push.data.toList.drop 22 = dktX8_push_1 := dk_seg dksX8_push_0 22 rfl rfl
theorem dX8_push_0 : decode cX8_push 0 = .ok (.aload_n 1, 1) := dk_43 (dk_at dksX8_push_0 0 rfl rfl)
theorem dX8_push_1 : decode cX8_push 1 = .ok (.invokevirtual 213, 3) := dk_182 0 213 (dk_at dksX8_push_0 1 rfl rfl)
theorem dX8_push_4 : decode cX8_push 4 = .ok (.astore_n 2, 1) := dk_77 (dk_at dksX8_push_0 4 rfl rfl)
theorem dX8_push_5 : decode cX8_push 5 = .ok (.aload_n 2, 1) := dk_44 (dk_at dksX8_push_0 5 rfl rfl)
theorem dX8_push_6 : decode cX8_push 6 = .ok (.getfield 102, 3) := dk_180 0 102 (dk_at dksX8_push_0 6 rfl rfl)
theorem dX8_push_9 : decode cX8_push 9 = .ok (.ifCond .ne 17, 3) := dk_154 0 17 (dk_at dksX8_push_0 9 rfl rfl)
theorem dX8_push_12 : decode cX8_push 12 = .ok (.aload_n 2, 1) := dk_44 (dk_at dksX8_push_0 12 rfl rfl)
theorem dX8_push_13 : decode cX8_push 13 = .ok (.iconst 1, 1) := dk_4 (dk_at dksX8_push_0 13 rfl rfl)
theorem dX8_push_14 : decode cX8_push 14 = .ok (.putfield 102, 3) := dk_181 0 102 (dk_at dksX8_push_0 14 rfl rfl)
theorem dX8_push_17 : decode cX8_push 17 = .ok (.aload_n 0, 1) := dk_42 (dk_at dksX8_push_0 17 rfl rfl)
theorem dX8_push_18 : decode cX8_push 18 = .ok (.getfield 30, 3) := dk_180 0 30 (dk_at dksX8_push_0 18 rfl rfl)
theorem dX8_push_21 : decode cX8_push 21 = .ok (.aload_n 2, 1) := dk_44 (dk_at dksX8_push_0 21 rfl rfl)
theorem dX8_push_22 : decode cX8_push 22 = .ok (.invokevirtual 239, 3) := dk_182 0 239 (dk_at dksX8_push_1 0 rfl rfl)
theorem dX8_push_25 : decode cX8_push 25 = .ok (.pop, 1) := dk_87 (dk_at dksX8_push_1 3 rfl rfl)
theorem dX8_push_26 : decode cX8_push 26 = .ok (.return_, 1) := dk_177 (dk_at dksX8_push_1 4 rfl rfl)
abbrev cX8_flow : ByteArray := prog_2_method_12_code
def yX8_flow : MethodName := ⟨RX8, "flow", "(LPointerAnalyzer$Cell;)V"⟩
def dkwX8_flow_9 : List UInt8 := [43, 180, 0, 162, 29, 4, 96, 182, 0, 203, 62, 167, 255, 225, 177]
abbrev dktX8_flow_9 : List UInt8 := dkwX8_flow_9 ++ []
def dkwX8_flow_8 : List UInt8 := [182, 0, 203, 62, 29, 155, 0, 33, 42, 42, 180, 0, 12, 29, 182, 0, 60, 192, 0, 81, 44, 182, 0, 243]
abbrev dktX8_flow_8 : List UInt8 := dkwX8_flow_8 ++ dktX8_flow_9
def dkwX8_flow_7 : List UInt8 := [192, 0, 177, 180, 0, 253, 182, 1, 0, 182, 0, 243, 132, 3, 1, 167, 255, 205, 43, 180, 0, 162, 3]
abbrev dktX8_flow_7 : List UInt8 := dkwX8_flow_7 ++ dktX8_flow_8
def dkwX8_flow_6 : List UInt8 := [43, 180, 0, 174, 29, 182, 0, 60, 192, 0, 177, 180, 0, 250, 42, 44, 43, 180, 0, 174, 29, 182, 0, 60]
abbrev dktX8_flow_6 : List UInt8 := dkwX8_flow_6 ++ dktX8_flow_7
def dkwX8_flow_5 : List UInt8 := [29, 4, 96, 182, 0, 203, 62, 167, 255, 148, 3, 62, 29, 43, 180, 0, 174, 182, 0, 56, 162, 0, 46, 42]
abbrev dktX8_flow_5 : List UInt8 := dkwX8_flow_5 ++ dktX8_flow_6
def dkwX8_flow_4 : List UInt8 := [192, 0, 81, 42, 180, 0, 12, 29, 182, 0, 60, 192, 0, 81, 182, 0, 247, 132, 4, 1, 167, 255, 214, 44]
abbrev dktX8_flow_4 : List UInt8 := dkwX8_flow_4 ++ dktX8_flow_5
def dkwX8_flow_3 : List UInt8 := [21, 4, 43, 180, 0, 168, 182, 0, 56, 162, 0, 36, 42, 43, 180, 0, 168, 21, 4, 182, 0, 60]
abbrev dktX8_flow_3 : List UInt8 := dkwX8_flow_3 ++ dktX8_flow_4
def dkwX8_flow_2 : List UInt8 := [43, 180, 0, 165, 21, 4, 182, 0, 60, 192, 0, 81, 182, 0, 247, 132, 4, 1, 167, 255, 214, 3, 54, 4]
abbrev dktX8_flow_2 : List UInt8 := dkwX8_flow_2 ++ dktX8_flow_3
def dkwX8_flow_1 : List UInt8 := [21, 4, 43, 180, 0, 165, 182, 0, 56, 162, 0, 36, 42, 42, 180, 0, 12, 29, 182, 0, 60, 192, 0, 81]
abbrev dktX8_flow_1 : List UInt8 := dkwX8_flow_1 ++ dktX8_flow_2
def dkwX8_flow_0 : List UInt8 := [43, 180, 0, 83, 182, 0, 222, 192, 0, 88, 77, 44, 3, 182, 0, 203, 62, 29, 155, 0, 110, 3, 54, 4]
abbrev dktX8_flow_0 : List UInt8 := dkwX8_flow_0 ++ dktX8_flow_1
theorem dksX8_flow_0 : cX8_flow.data.toList.drop 0 = dktX8_flow_0 := by decide +kernel
theorem dksX8_flow_1 : cX8_flow.data.toList.drop 24 = dktX8_flow_1 := dk_seg dksX8_flow_0 24 rfl rfl
theorem dksX8_flow_2 : cX8_flow.data.toList.drop 48 = dktX8_flow_2 := dk_seg dksX8_flow_1 24 rfl rfl
theorem dksX8_flow_3 : cX8_flow.data.toList.drop 72 = dktX8_flow_3 := dk_seg dksX8_flow_2 24 rfl rfl
theorem dksX8_flow_4 : cX8_flow.data.toList.drop 94 = dktX8_flow_4 := dk_seg dksX8_flow_3 22 rfl rfl
theorem dksX8_flow_5 : cX8_flow.data.toList.drop 118 = dktX8_flow_5 := dk_seg dksX8_flow_4 24 rfl rfl
theorem dksX8_flow_6 : cX8_flow.data.toList.drop 142 = dktX8_flow_6 := dk_seg dksX8_flow_5 24 rfl rfl
theorem dksX8_flow_7 : cX8_flow.data.toList.drop 166 = dktX8_flow_7 := dk_seg dksX8_flow_6 24 rfl rfl
theorem dksX8_flow_8 : cX8_flow.data.toList.drop 189 = dktX8_flow_8 := dk_seg dksX8_flow_7 23 rfl rfl
theorem dksX8_flow_9 : cX8_flow.data.toList.drop 213 = dktX8_flow_9 := dk_seg dksX8_flow_8 24 rfl rfl
theorem dX8_flow_0 : decode cX8_flow 0 = .ok (.aload_n 1, 1) := dk_43 (dk_at dksX8_flow_0 0 rfl rfl)
theorem dX8_flow_1 : decode cX8_flow 1 = .ok (.getfield 83, 3) := dk_180 0 83 (dk_at dksX8_flow_0 1 rfl rfl)
theorem dX8_flow_4 : decode cX8_flow 4 = .ok (.invokevirtual 222, 3) := dk_182 0 222 (dk_at dksX8_flow_0 4 rfl rfl)
theorem dX8_flow_7 : decode cX8_flow 7 = .ok (.checkcast 88, 3) := dk_192 0 88 (dk_at dksX8_flow_0 7 rfl rfl)
theorem dX8_flow_10 : decode cX8_flow 10 = .ok (.astore_n 2, 1) := dk_77 (dk_at dksX8_flow_0 10 rfl rfl)
theorem dX8_flow_11 : decode cX8_flow 11 = .ok (.aload_n 2, 1) := dk_44 (dk_at dksX8_flow_0 11 rfl rfl)
theorem dX8_flow_12 : decode cX8_flow 12 = .ok (.iconst 0, 1) := dk_3 (dk_at dksX8_flow_0 12 rfl rfl)
theorem dX8_flow_13 : decode cX8_flow 13 = .ok (.invokevirtual 203, 3) := dk_182 0 203 (dk_at dksX8_flow_0 13 rfl rfl)
theorem dX8_flow_16 : decode cX8_flow 16 = .ok (.istore_n 3, 1) := dk_62 (dk_at dksX8_flow_0 16 rfl rfl)
theorem dX8_flow_17 : decode cX8_flow 17 = .ok (.iload_n 3, 1) := dk_29 (dk_at dksX8_flow_0 17 rfl rfl)
theorem dX8_flow_18 : decode cX8_flow 18 = .ok (.ifCond .lt 110, 3) := dk_155 0 110 (dk_at dksX8_flow_0 18 rfl rfl)
theorem dX8_flow_21 : decode cX8_flow 21 = .ok (.iconst 0, 1) := dk_3 (dk_at dksX8_flow_0 21 rfl rfl)
theorem dX8_flow_22 : decode cX8_flow 22 = .ok (.istore 4, 2) := dk_54 4 (dk_at dksX8_flow_0 22 rfl rfl)
theorem dX8_flow_24 : decode cX8_flow 24 = .ok (.iload 4, 2) := dk_21 4 (dk_at dksX8_flow_1 0 rfl rfl)
theorem dX8_flow_26 : decode cX8_flow 26 = .ok (.aload_n 1, 1) := dk_43 (dk_at dksX8_flow_1 2 rfl rfl)
theorem dX8_flow_27 : decode cX8_flow 27 = .ok (.getfield 165, 3) := dk_180 0 165 (dk_at dksX8_flow_1 3 rfl rfl)
theorem dX8_flow_30 : decode cX8_flow 30 = .ok (.invokevirtual 56, 3) := dk_182 0 56 (dk_at dksX8_flow_1 6 rfl rfl)
theorem dX8_flow_33 : decode cX8_flow 33 = .ok (.if_icmp .ge 36, 3) := dk_162 0 36 (dk_at dksX8_flow_1 9 rfl rfl)
theorem dX8_flow_36 : decode cX8_flow 36 = .ok (.aload_n 0, 1) := dk_42 (dk_at dksX8_flow_1 12 rfl rfl)
theorem dX8_flow_37 : decode cX8_flow 37 = .ok (.aload_n 0, 1) := dk_42 (dk_at dksX8_flow_1 13 rfl rfl)
theorem dX8_flow_38 : decode cX8_flow 38 = .ok (.getfield 12, 3) := dk_180 0 12 (dk_at dksX8_flow_1 14 rfl rfl)
theorem dX8_flow_41 : decode cX8_flow 41 = .ok (.iload_n 3, 1) := dk_29 (dk_at dksX8_flow_1 17 rfl rfl)
theorem dX8_flow_42 : decode cX8_flow 42 = .ok (.invokevirtual 60, 3) := dk_182 0 60 (dk_at dksX8_flow_1 18 rfl rfl)
theorem dX8_flow_45 : decode cX8_flow 45 = .ok (.checkcast 81, 3) := dk_192 0 81 (dk_at dksX8_flow_1 21 rfl rfl)
theorem dX8_flow_48 : decode cX8_flow 48 = .ok (.aload_n 1, 1) := dk_43 (dk_at dksX8_flow_2 0 rfl rfl)
theorem dX8_flow_49 : decode cX8_flow 49 = .ok (.getfield 165, 3) := dk_180 0 165 (dk_at dksX8_flow_2 1 rfl rfl)
theorem dX8_flow_52 : decode cX8_flow 52 = .ok (.iload 4, 2) := dk_21 4 (dk_at dksX8_flow_2 4 rfl rfl)
theorem dX8_flow_54 : decode cX8_flow 54 = .ok (.invokevirtual 60, 3) := dk_182 0 60 (dk_at dksX8_flow_2 6 rfl rfl)
theorem dX8_flow_57 : decode cX8_flow 57 = .ok (.checkcast 81, 3) := dk_192 0 81 (dk_at dksX8_flow_2 9 rfl rfl)
theorem dX8_flow_60 : decode cX8_flow 60 = .ok (.invokevirtual 247, 3) := dk_182 0 247 (dk_at dksX8_flow_2 12 rfl rfl)
theorem dX8_flow_63 : decode cX8_flow 63 = .ok (.iinc 4 1, 3) := dk_132 4 1 (dk_at dksX8_flow_2 15 rfl rfl)
theorem dX8_flow_66 : decode cX8_flow 66 = .ok (.goto (-42), 3) := dk_167 255 214 (dk_at dksX8_flow_2 18 rfl rfl)
theorem dX8_flow_69 : decode cX8_flow 69 = .ok (.iconst 0, 1) := dk_3 (dk_at dksX8_flow_2 21 rfl rfl)
theorem dX8_flow_70 : decode cX8_flow 70 = .ok (.istore 4, 2) := dk_54 4 (dk_at dksX8_flow_2 22 rfl rfl)
theorem dX8_flow_72 : decode cX8_flow 72 = .ok (.iload 4, 2) := dk_21 4 (dk_at dksX8_flow_3 0 rfl rfl)
theorem dX8_flow_74 : decode cX8_flow 74 = .ok (.aload_n 1, 1) := dk_43 (dk_at dksX8_flow_3 2 rfl rfl)
theorem dX8_flow_75 : decode cX8_flow 75 = .ok (.getfield 168, 3) := dk_180 0 168 (dk_at dksX8_flow_3 3 rfl rfl)
theorem dX8_flow_78 : decode cX8_flow 78 = .ok (.invokevirtual 56, 3) := dk_182 0 56 (dk_at dksX8_flow_3 6 rfl rfl)
theorem dX8_flow_81 : decode cX8_flow 81 = .ok (.if_icmp .ge 36, 3) := dk_162 0 36 (dk_at dksX8_flow_3 9 rfl rfl)
theorem dX8_flow_84 : decode cX8_flow 84 = .ok (.aload_n 0, 1) := dk_42 (dk_at dksX8_flow_3 12 rfl rfl)
theorem dX8_flow_85 : decode cX8_flow 85 = .ok (.aload_n 1, 1) := dk_43 (dk_at dksX8_flow_3 13 rfl rfl)
theorem dX8_flow_86 : decode cX8_flow 86 = .ok (.getfield 168, 3) := dk_180 0 168 (dk_at dksX8_flow_3 14 rfl rfl)
theorem dX8_flow_89 : decode cX8_flow 89 = .ok (.iload 4, 2) := dk_21 4 (dk_at dksX8_flow_3 17 rfl rfl)
theorem dX8_flow_91 : decode cX8_flow 91 = .ok (.invokevirtual 60, 3) := dk_182 0 60 (dk_at dksX8_flow_3 19 rfl rfl)
theorem dX8_flow_94 : decode cX8_flow 94 = .ok (.checkcast 81, 3) := dk_192 0 81 (dk_at dksX8_flow_4 0 rfl rfl)
theorem dX8_flow_97 : decode cX8_flow 97 = .ok (.aload_n 0, 1) := dk_42 (dk_at dksX8_flow_4 3 rfl rfl)
theorem dX8_flow_98 : decode cX8_flow 98 = .ok (.getfield 12, 3) := dk_180 0 12 (dk_at dksX8_flow_4 4 rfl rfl)
theorem dX8_flow_101 : decode cX8_flow 101 = .ok (.iload_n 3, 1) := dk_29 (dk_at dksX8_flow_4 7 rfl rfl)
theorem dX8_flow_102 : decode cX8_flow 102 = .ok (.invokevirtual 60, 3) := dk_182 0 60 (dk_at dksX8_flow_4 8 rfl rfl)
theorem dX8_flow_105 : decode cX8_flow 105 = .ok (.checkcast 81, 3) := dk_192 0 81 (dk_at dksX8_flow_4 11 rfl rfl)
theorem dX8_flow_108 : decode cX8_flow 108 = .ok (.invokevirtual 247, 3) := dk_182 0 247 (dk_at dksX8_flow_4 14 rfl rfl)
theorem dX8_flow_111 : decode cX8_flow 111 = .ok (.iinc 4 1, 3) := dk_132 4 1 (dk_at dksX8_flow_4 17 rfl rfl)
theorem dX8_flow_114 : decode cX8_flow 114 = .ok (.goto (-42), 3) := dk_167 255 214 (dk_at dksX8_flow_4 20 rfl rfl)
theorem dX8_flow_117 : decode cX8_flow 117 = .ok (.aload_n 2, 1) := dk_44 (dk_at dksX8_flow_4 23 rfl rfl)
theorem dX8_flow_118 : decode cX8_flow 118 = .ok (.iload_n 3, 1) := dk_29 (dk_at dksX8_flow_5 0 rfl rfl)
theorem dX8_flow_119 : decode cX8_flow 119 = .ok (.iconst 1, 1) := dk_4 (dk_at dksX8_flow_5 1 rfl rfl)
theorem dX8_flow_120 : decode cX8_flow 120 = .ok (.iadd, 1) := dk_96 (dk_at dksX8_flow_5 2 rfl rfl)
theorem dX8_flow_121 : decode cX8_flow 121 = .ok (.invokevirtual 203, 3) := dk_182 0 203 (dk_at dksX8_flow_5 3 rfl rfl)
theorem dX8_flow_124 : decode cX8_flow 124 = .ok (.istore_n 3, 1) := dk_62 (dk_at dksX8_flow_5 6 rfl rfl)
theorem dX8_flow_125 : decode cX8_flow 125 = .ok (.goto (-108), 3) := dk_167 255 148 (dk_at dksX8_flow_5 7 rfl rfl)
theorem dX8_flow_128 : decode cX8_flow 128 = .ok (.iconst 0, 1) := dk_3 (dk_at dksX8_flow_5 10 rfl rfl)
theorem dX8_flow_129 : decode cX8_flow 129 = .ok (.istore_n 3, 1) := dk_62 (dk_at dksX8_flow_5 11 rfl rfl)
theorem dX8_flow_130 : decode cX8_flow 130 = .ok (.iload_n 3, 1) := dk_29 (dk_at dksX8_flow_5 12 rfl rfl)
theorem dX8_flow_131 : decode cX8_flow 131 = .ok (.aload_n 1, 1) := dk_43 (dk_at dksX8_flow_5 13 rfl rfl)
theorem dX8_flow_132 : decode cX8_flow 132 = .ok (.getfield 174, 3) := dk_180 0 174 (dk_at dksX8_flow_5 14 rfl rfl)
theorem dX8_flow_135 : decode cX8_flow 135 = .ok (.invokevirtual 56, 3) := dk_182 0 56 (dk_at dksX8_flow_5 17 rfl rfl)
theorem dX8_flow_138 : decode cX8_flow 138 = .ok (.if_icmp .ge 46, 3) := dk_162 0 46 (dk_at dksX8_flow_5 20 rfl rfl)
theorem dX8_flow_141 : decode cX8_flow 141 = .ok (.aload_n 0, 1) := dk_42 (dk_at dksX8_flow_5 23 rfl rfl)
theorem dX8_flow_142 : decode cX8_flow 142 = .ok (.aload_n 1, 1) := dk_43 (dk_at dksX8_flow_6 0 rfl rfl)
theorem dX8_flow_143 : decode cX8_flow 143 = .ok (.getfield 174, 3) := dk_180 0 174 (dk_at dksX8_flow_6 1 rfl rfl)
theorem dX8_flow_146 : decode cX8_flow 146 = .ok (.iload_n 3, 1) := dk_29 (dk_at dksX8_flow_6 4 rfl rfl)
theorem dX8_flow_147 : decode cX8_flow 147 = .ok (.invokevirtual 60, 3) := dk_182 0 60 (dk_at dksX8_flow_6 5 rfl rfl)
theorem dX8_flow_150 : decode cX8_flow 150 = .ok (.checkcast 177, 3) := dk_192 0 177 (dk_at dksX8_flow_6 8 rfl rfl)
theorem dX8_flow_153 : decode cX8_flow 153 = .ok (.getfield 250, 3) := dk_180 0 250 (dk_at dksX8_flow_6 11 rfl rfl)
theorem dX8_flow_156 : decode cX8_flow 156 = .ok (.aload_n 0, 1) := dk_42 (dk_at dksX8_flow_6 14 rfl rfl)
theorem dX8_flow_157 : decode cX8_flow 157 = .ok (.aload_n 2, 1) := dk_44 (dk_at dksX8_flow_6 15 rfl rfl)
theorem dX8_flow_158 : decode cX8_flow 158 = .ok (.aload_n 1, 1) := dk_43 (dk_at dksX8_flow_6 16 rfl rfl)
theorem dX8_flow_159 : decode cX8_flow 159 = .ok (.getfield 174, 3) := dk_180 0 174 (dk_at dksX8_flow_6 17 rfl rfl)
theorem dX8_flow_162 : decode cX8_flow 162 = .ok (.iload_n 3, 1) := dk_29 (dk_at dksX8_flow_6 20 rfl rfl)
theorem dX8_flow_163 : decode cX8_flow 163 = .ok (.invokevirtual 60, 3) := dk_182 0 60 (dk_at dksX8_flow_6 21 rfl rfl)
theorem dX8_flow_166 : decode cX8_flow 166 = .ok (.checkcast 177, 3) := dk_192 0 177 (dk_at dksX8_flow_7 0 rfl rfl)
theorem dX8_flow_169 : decode cX8_flow 169 = .ok (.getfield 253, 3) := dk_180 0 253 (dk_at dksX8_flow_7 3 rfl rfl)
theorem dX8_flow_172 : decode cX8_flow 172 = .ok (.invokevirtual 256, 3) := dk_182 1 0 (dk_at dksX8_flow_7 6 rfl rfl)
theorem dX8_flow_175 : decode cX8_flow 175 = .ok (.invokevirtual 243, 3) := dk_182 0 243 (dk_at dksX8_flow_7 9 rfl rfl)
theorem dX8_flow_178 : decode cX8_flow 178 = .ok (.iinc 3 1, 3) := dk_132 3 1 (dk_at dksX8_flow_7 12 rfl rfl)
theorem dX8_flow_181 : decode cX8_flow 181 = .ok (.goto (-51), 3) := dk_167 255 205 (dk_at dksX8_flow_7 15 rfl rfl)
theorem dX8_flow_184 : decode cX8_flow 184 = .ok (.aload_n 1, 1) := dk_43 (dk_at dksX8_flow_7 18 rfl rfl)
theorem dX8_flow_185 : decode cX8_flow 185 = .ok (.getfield 162, 3) := dk_180 0 162 (dk_at dksX8_flow_7 19 rfl rfl)
theorem dX8_flow_188 : decode cX8_flow 188 = .ok (.iconst 0, 1) := dk_3 (dk_at dksX8_flow_7 22 rfl rfl)
theorem dX8_flow_189 : decode cX8_flow 189 = .ok (.invokevirtual 203, 3) := dk_182 0 203 (dk_at dksX8_flow_8 0 rfl rfl)
theorem dX8_flow_192 : decode cX8_flow 192 = .ok (.istore_n 3, 1) := dk_62 (dk_at dksX8_flow_8 3 rfl rfl)
theorem dX8_flow_193 : decode cX8_flow 193 = .ok (.iload_n 3, 1) := dk_29 (dk_at dksX8_flow_8 4 rfl rfl)
theorem dX8_flow_194 : decode cX8_flow 194 = .ok (.ifCond .lt 33, 3) := dk_155 0 33 (dk_at dksX8_flow_8 5 rfl rfl)
theorem dX8_flow_197 : decode cX8_flow 197 = .ok (.aload_n 0, 1) := dk_42 (dk_at dksX8_flow_8 8 rfl rfl)
theorem dX8_flow_198 : decode cX8_flow 198 = .ok (.aload_n 0, 1) := dk_42 (dk_at dksX8_flow_8 9 rfl rfl)
theorem dX8_flow_199 : decode cX8_flow 199 = .ok (.getfield 12, 3) := dk_180 0 12 (dk_at dksX8_flow_8 10 rfl rfl)
theorem dX8_flow_202 : decode cX8_flow 202 = .ok (.iload_n 3, 1) := dk_29 (dk_at dksX8_flow_8 13 rfl rfl)
theorem dX8_flow_203 : decode cX8_flow 203 = .ok (.invokevirtual 60, 3) := dk_182 0 60 (dk_at dksX8_flow_8 14 rfl rfl)
theorem dX8_flow_206 : decode cX8_flow 206 = .ok (.checkcast 81, 3) := dk_192 0 81 (dk_at dksX8_flow_8 17 rfl rfl)
theorem dX8_flow_209 : decode cX8_flow 209 = .ok (.aload_n 2, 1) := dk_44 (dk_at dksX8_flow_8 20 rfl rfl)
theorem dX8_flow_210 : decode cX8_flow 210 = .ok (.invokevirtual 243, 3) := dk_182 0 243 (dk_at dksX8_flow_8 21 rfl rfl)
theorem dX8_flow_213 : decode cX8_flow 213 = .ok (.aload_n 1, 1) := dk_43 (dk_at dksX8_flow_9 0 rfl rfl)
theorem dX8_flow_214 : decode cX8_flow 214 = .ok (.getfield 162, 3) := dk_180 0 162 (dk_at dksX8_flow_9 1 rfl rfl)
theorem dX8_flow_217 : decode cX8_flow 217 = .ok (.iload_n 3, 1) := dk_29 (dk_at dksX8_flow_9 4 rfl rfl)
theorem dX8_flow_218 : decode cX8_flow 218 = .ok (.iconst 1, 1) := dk_4 (dk_at dksX8_flow_9 5 rfl rfl)
theorem dX8_flow_219 : decode cX8_flow 219 = .ok (.iadd, 1) := dk_96 (dk_at dksX8_flow_9 6 rfl rfl)
theorem dX8_flow_220 : decode cX8_flow 220 = .ok (.invokevirtual 203, 3) := dk_182 0 203 (dk_at dksX8_flow_9 7 rfl rfl)
theorem dX8_flow_223 : decode cX8_flow 223 = .ok (.istore_n 3, 1) := dk_62 (dk_at dksX8_flow_9 10 rfl rfl)
theorem dX8_flow_224 : decode cX8_flow 224 = .ok (.goto (-31), 3) := dk_167 255 225 (dk_at dksX8_flow_9 11 rfl rfl)
theorem dX8_flow_227 : decode cX8_flow 227 = .ok (.return_, 1) := dk_177 (dk_at dksX8_flow_9 14 rfl rfl)
abbrev cX8_connect : ByteArray := prog_2_method_11_code
def yX8_connect : MethodName := ⟨RX8, "connect", "(LPointerAnalyzer$Cell;LPointerAnalyzer$Cell;)V"⟩
def dkwX8_connect_1 : List UInt8 := [180, 0, 156, 182, 0, 159, 42, 44, 45, 180, 0, 83, 182, 0, 243, 177]
abbrev dktX8_connect_1 : List UInt8 := dkwX8_connect_1 ++ []
def dkwX8_connect_0 : List UInt8 := [43, 182, 0, 213, 78, 45, 180, 0, 162, 44, 180, 0, 156, 182, 0, 206, 154, 0, 23, 45, 180, 0, 162, 44]
abbrev dktX8_connect_0 : List UInt8 := dkwX8_connect_0 ++ dktX8_connect_1
theorem dksX8_connect_0 : cX8_connect.data.toList.drop 0 = dktX8_connect_0 := by decide +kernel
theorem dksX8_connect_1 : cX8_connect.data.toList.drop 24 = dktX8_connect_1 := dk_seg dksX8_connect_0 24 rfl rfl
theorem dX8_connect_0 : decode cX8_connect 0 = .ok (.aload_n 1, 1) := dk_43 (dk_at dksX8_connect_0 0 rfl rfl)
theorem dX8_connect_1 : decode cX8_connect 1 = .ok (.invokevirtual 213, 3) := dk_182 0 213 (dk_at dksX8_connect_0 1 rfl rfl)
theorem dX8_connect_4 : decode cX8_connect 4 = .ok (.astore_n 3, 1) := dk_78 (dk_at dksX8_connect_0 4 rfl rfl)
theorem dX8_connect_5 : decode cX8_connect 5 = .ok (.aload_n 3, 1) := dk_45 (dk_at dksX8_connect_0 5 rfl rfl)
theorem dX8_connect_6 : decode cX8_connect 6 = .ok (.getfield 162, 3) := dk_180 0 162 (dk_at dksX8_connect_0 6 rfl rfl)
theorem dX8_connect_9 : decode cX8_connect 9 = .ok (.aload_n 2, 1) := dk_44 (dk_at dksX8_connect_0 9 rfl rfl)
theorem dX8_connect_10 : decode cX8_connect 10 = .ok (.getfield 156, 3) := dk_180 0 156 (dk_at dksX8_connect_0 10 rfl rfl)
theorem dX8_connect_13 : decode cX8_connect 13 = .ok (.invokevirtual 206, 3) := dk_182 0 206 (dk_at dksX8_connect_0 13 rfl rfl)
theorem dX8_connect_16 : decode cX8_connect 16 = .ok (.ifCond .ne 23, 3) := dk_154 0 23 (dk_at dksX8_connect_0 16 rfl rfl)
theorem dX8_connect_19 : decode cX8_connect 19 = .ok (.aload_n 3, 1) := dk_45 (dk_at dksX8_connect_0 19 rfl rfl)
theorem dX8_connect_20 : decode cX8_connect 20 = .ok (.getfield 162, 3) := dk_180 0 162 (dk_at dksX8_connect_0 20 rfl rfl)
theorem dX8_connect_23 : decode cX8_connect 23 = .ok (.aload_n 2, 1) := dk_44 (dk_at dksX8_connect_0 23 rfl rfl)
theorem dX8_connect_24 : decode cX8_connect 24 = .ok (.getfield 156, 3) := dk_180 0 156 (dk_at dksX8_connect_1 0 rfl rfl)
theorem dX8_connect_27 : decode cX8_connect 27 = .ok (.invokevirtual 159, 3) := dk_182 0 159 (dk_at dksX8_connect_1 3 rfl rfl)
theorem dX8_connect_30 : decode cX8_connect 30 = .ok (.aload_n 0, 1) := dk_42 (dk_at dksX8_connect_1 6 rfl rfl)
theorem dX8_connect_31 : decode cX8_connect 31 = .ok (.aload_n 2, 1) := dk_44 (dk_at dksX8_connect_1 7 rfl rfl)
theorem dX8_connect_32 : decode cX8_connect 32 = .ok (.aload_n 3, 1) := dk_45 (dk_at dksX8_connect_1 8 rfl rfl)
theorem dX8_connect_33 : decode cX8_connect 33 = .ok (.getfield 83, 3) := dk_180 0 83 (dk_at dksX8_connect_1 9 rfl rfl)
theorem dX8_connect_36 : decode cX8_connect 36 = .ok (.invokevirtual 243, 3) := dk_182 0 243 (dk_at dksX8_connect_1 12 rfl rfl)
theorem dX8_connect_39 : decode cX8_connect 39 = .ok (.return_, 1) := dk_177 (dk_at dksX8_connect_1 15 rfl rfl)
abbrev cX8_grow : ByteArray := prog_2_method_10_code
def yX8_grow : MethodName := ⟨RX8, "grow", "(LPointerAnalyzer$Cell;Ljava/util/BitSet;)V"⟩
def dkwX8_grow_2 : List UInt8 := [180, 0, 83, 25, 4, 182, 0, 228, 42, 45, 182, 0, 93, 177]
abbrev dktX8_grow_2 : List UInt8 := dkwX8_grow_2 ++ []
def dkwX8_grow_1 : List UInt8 := [25, 4, 182, 0, 87, 154, 0, 31, 42, 180, 0, 30, 45, 182, 0, 240, 87, 45, 3, 181, 0, 102, 45]
abbrev dktX8_grow_1 : List UInt8 := dkwX8_grow_1 ++ dktX8_grow_2
def dkwX8_grow_0 : List UInt8 := [43, 182, 0, 213, 78, 44, 182, 0, 222, 192, 0, 88, 58, 4, 25, 4, 45, 180, 0, 83, 182, 0, 232]
abbrev dktX8_grow_0 : List UInt8 := dkwX8_grow_0 ++ dktX8_grow_1
theorem dksX8_grow_0 : cX8_grow.data.toList.drop 0 = dktX8_grow_0 := by decide +kernel
theorem dksX8_grow_1 : cX8_grow.data.toList.drop 23 = dktX8_grow_1 := dk_seg dksX8_grow_0 23 rfl rfl
theorem dksX8_grow_2 : cX8_grow.data.toList.drop 46 = dktX8_grow_2 := dk_seg dksX8_grow_1 23 rfl rfl
theorem dX8_grow_0 : decode cX8_grow 0 = .ok (.aload_n 1, 1) := dk_43 (dk_at dksX8_grow_0 0 rfl rfl)
theorem dX8_grow_1 : decode cX8_grow 1 = .ok (.invokevirtual 213, 3) := dk_182 0 213 (dk_at dksX8_grow_0 1 rfl rfl)
theorem dX8_grow_4 : decode cX8_grow 4 = .ok (.astore_n 3, 1) := dk_78 (dk_at dksX8_grow_0 4 rfl rfl)
theorem dX8_grow_5 : decode cX8_grow 5 = .ok (.aload_n 2, 1) := dk_44 (dk_at dksX8_grow_0 5 rfl rfl)
theorem dX8_grow_6 : decode cX8_grow 6 = .ok (.invokevirtual 222, 3) := dk_182 0 222 (dk_at dksX8_grow_0 6 rfl rfl)
theorem dX8_grow_9 : decode cX8_grow 9 = .ok (.checkcast 88, 3) := dk_192 0 88 (dk_at dksX8_grow_0 9 rfl rfl)
theorem dX8_grow_12 : decode cX8_grow 12 = .ok (.astore 4, 2) := dk_58 4 (dk_at dksX8_grow_0 12 rfl rfl)
theorem dX8_grow_14 : decode cX8_grow 14 = .ok (.aload 4, 2) := dk_25 4 (dk_at dksX8_grow_0 14 rfl rfl)
theorem dX8_grow_16 : decode cX8_grow 16 = .ok (.aload_n 3, 1) := dk_45 (dk_at dksX8_grow_0 16 rfl rfl)
theorem dX8_grow_17 : decode cX8_grow 17 = .ok (.getfield 83, 3) := dk_180 0 83 (dk_at dksX8_grow_0 17 rfl rfl)
theorem dX8_grow_20 : decode cX8_grow 20 = .ok (.invokevirtual 232, 3) := dk_182 0 232 (dk_at dksX8_grow_0 20 rfl rfl)
theorem dX8_grow_23 : decode cX8_grow 23 = .ok (.aload 4, 2) := dk_25 4 (dk_at dksX8_grow_1 0 rfl rfl)
theorem dX8_grow_25 : decode cX8_grow 25 = .ok (.invokevirtual 87, 3) := dk_182 0 87 (dk_at dksX8_grow_1 2 rfl rfl)
theorem dX8_grow_28 : decode cX8_grow 28 = .ok (.ifCond .ne 31, 3) := dk_154 0 31 (dk_at dksX8_grow_1 5 rfl rfl)
theorem dX8_grow_31 : decode cX8_grow 31 = .ok (.aload_n 0, 1) := dk_42 (dk_at dksX8_grow_1 8 rfl rfl)
theorem dX8_grow_32 : decode cX8_grow 32 = .ok (.getfield 30, 3) := dk_180 0 30 (dk_at dksX8_grow_1 9 rfl rfl)
theorem dX8_grow_35 : decode cX8_grow 35 = .ok (.aload_n 3, 1) := dk_45 (dk_at dksX8_grow_1 12 rfl rfl)
theorem dX8_grow_36 : decode cX8_grow 36 = .ok (.invokevirtual 240, 3) := dk_182 0 240 (dk_at dksX8_grow_1 13 rfl rfl)
theorem dX8_grow_39 : decode cX8_grow 39 = .ok (.pop, 1) := dk_87 (dk_at dksX8_grow_1 16 rfl rfl)
theorem dX8_grow_40 : decode cX8_grow 40 = .ok (.aload_n 3, 1) := dk_45 (dk_at dksX8_grow_1 17 rfl rfl)
theorem dX8_grow_41 : decode cX8_grow 41 = .ok (.iconst 0, 1) := dk_3 (dk_at dksX8_grow_1 18 rfl rfl)
theorem dX8_grow_42 : decode cX8_grow 42 = .ok (.putfield 102, 3) := dk_181 0 102 (dk_at dksX8_grow_1 19 rfl rfl)
theorem dX8_grow_45 : decode cX8_grow 45 = .ok (.aload_n 3, 1) := dk_45 (dk_at dksX8_grow_1 22 rfl rfl)
theorem dX8_grow_46 : decode cX8_grow 46 = .ok (.getfield 83, 3) := dk_180 0 83 (dk_at dksX8_grow_2 0 rfl rfl)
theorem dX8_grow_49 : decode cX8_grow 49 = .ok (.aload 4, 2) := dk_25 4 (dk_at dksX8_grow_2 3 rfl rfl)
theorem dX8_grow_51 : decode cX8_grow 51 = .ok (.invokevirtual 228, 3) := dk_182 0 228 (dk_at dksX8_grow_2 5 rfl rfl)
theorem dX8_grow_54 : decode cX8_grow 54 = .ok (.aload_n 0, 1) := dk_42 (dk_at dksX8_grow_2 8 rfl rfl)
theorem dX8_grow_55 : decode cX8_grow 55 = .ok (.aload_n 3, 1) := dk_45 (dk_at dksX8_grow_2 9 rfl rfl)
theorem dX8_grow_56 : decode cX8_grow 56 = .ok (.invokevirtual 93, 3) := dk_182 0 93 (dk_at dksX8_grow_2 10 rfl rfl)
theorem dX8_grow_59 : decode cX8_grow 59 = .ok (.return_, 1) := dk_177 (dk_at dksX8_grow_2 13 rfl rfl)
abbrev cX8_moved : ByteArray := prog_2_method_13_code
def yX8_moved : MethodName := ⟨RX8, "moved", "(Ljava/util/BitSet;I)Ljava/util/BitSet;"⟩
def dkwX8_moved_3 : List UInt8 := [21, 4, 4, 96, 182, 0, 203, 54, 4, 167, 255, 193, 45, 176]
abbrev dktX8_moved_3 : List UInt8 := dkwX8_moved_3 ++ []
def dkwX8_moved_2 : List UInt8 := [167, 0, 4, 3, 54, 5, 28, 153, 0, 8, 21, 5, 153, 0, 11, 45, 21, 4, 28, 96, 182, 0, 159, 43]
abbrev dktX8_moved_2 : List UInt8 := dkwX8_moved_2 ++ dktX8_moved_3
def dkwX8_moved_1 : List UInt8 := [180, 0, 122, 161, 0, 22, 21, 4, 42, 180, 0, 122, 100, 6, 112, 28, 96, 6, 162, 0, 7, 4]
abbrev dktX8_moved_1 : List UInt8 := dkwX8_moved_1 ++ dktX8_moved_2
def dkwX8_moved_0 : List UInt8 := [187, 0, 88, 89, 183, 0, 221, 78, 43, 3, 182, 0, 203, 54, 4, 21, 4, 155, 0, 64, 21, 4, 42]
abbrev dktX8_moved_0 : List UInt8 := dkwX8_moved_0 ++ dktX8_moved_1
theorem dksX8_moved_0 : cX8_moved.data.toList.drop 0 = dktX8_moved_0 := by decide +kernel
theorem dksX8_moved_1 : cX8_moved.data.toList.drop 23 = dktX8_moved_1 := dk_seg dksX8_moved_0 23 rfl rfl
theorem dksX8_moved_2 : cX8_moved.data.toList.drop 45 = dktX8_moved_2 := dk_seg dksX8_moved_1 22 rfl rfl
theorem dksX8_moved_3 : cX8_moved.data.toList.drop 69 = dktX8_moved_3 := dk_seg dksX8_moved_2 24 rfl rfl
theorem dX8_moved_0 : decode cX8_moved 0 = .ok (.new 88, 3) := dk_187 0 88 (dk_at dksX8_moved_0 0 rfl rfl)
theorem dX8_moved_3 : decode cX8_moved 3 = .ok (.dup, 1) := dk_89 (dk_at dksX8_moved_0 3 rfl rfl)
theorem dX8_moved_4 : decode cX8_moved 4 = .ok (.invokespecial 221, 3) := dk_183 0 221 (dk_at dksX8_moved_0 4 rfl rfl)
theorem dX8_moved_7 : decode cX8_moved 7 = .ok (.astore_n 3, 1) := dk_78 (dk_at dksX8_moved_0 7 rfl rfl)
theorem dX8_moved_8 : decode cX8_moved 8 = .ok (.aload_n 1, 1) := dk_43 (dk_at dksX8_moved_0 8 rfl rfl)
theorem dX8_moved_9 : decode cX8_moved 9 = .ok (.iconst 0, 1) := dk_3 (dk_at dksX8_moved_0 9 rfl rfl)
theorem dX8_moved_10 : decode cX8_moved 10 = .ok (.invokevirtual 203, 3) := dk_182 0 203 (dk_at dksX8_moved_0 10 rfl rfl)
theorem dX8_moved_13 : decode cX8_moved 13 = .ok (.istore 4, 2) := dk_54 4 (dk_at dksX8_moved_0 13 rfl rfl)
theorem dX8_moved_15 : decode cX8_moved 15 = .ok (.iload 4, 2) := dk_21 4 (dk_at dksX8_moved_0 15 rfl rfl)
theorem dX8_moved_17 : decode cX8_moved 17 = .ok (.ifCond .lt 64, 3) := dk_155 0 64 (dk_at dksX8_moved_0 17 rfl rfl)
theorem dX8_moved_20 : decode cX8_moved 20 = .ok (.iload 4, 2) := dk_21 4 (dk_at dksX8_moved_0 20 rfl rfl)
theorem dX8_moved_22 : decode cX8_moved 22 = .ok (.aload_n 0, 1) := dk_42 (dk_at dksX8_moved_0 22 rfl rfl)
theorem dX8_moved_23 : decode cX8_moved 23 = .ok (.getfield 122, 3) := dk_180 0 122 (dk_at dksX8_moved_1 0 rfl rfl)
theorem dX8_moved_26 : decode cX8_moved 26 = .ok (.if_icmp .lt 22, 3) := dk_161 0 22 (dk_at dksX8_moved_1 3 rfl rfl)
theorem dX8_moved_29 : decode cX8_moved 29 = .ok (.iload 4, 2) := dk_21 4 (dk_at dksX8_moved_1 6 rfl rfl)
theorem dX8_moved_31 : decode cX8_moved 31 = .ok (.aload_n 0, 1) := dk_42 (dk_at dksX8_moved_1 8 rfl rfl)
theorem dX8_moved_32 : decode cX8_moved 32 = .ok (.getfield 122, 3) := dk_180 0 122 (dk_at dksX8_moved_1 9 rfl rfl)
theorem dX8_moved_35 : decode cX8_moved 35 = .ok (.isub, 1) := dk_100 (dk_at dksX8_moved_1 12 rfl rfl)
theorem dX8_moved_36 : decode cX8_moved 36 = .ok (.iconst 3, 1) := dk_6 (dk_at dksX8_moved_1 13 rfl rfl)
theorem dX8_moved_37 : decode cX8_moved 37 = .ok (.irem, 1) := dk_112 (dk_at dksX8_moved_1 14 rfl rfl)
theorem dX8_moved_38 : decode cX8_moved 38 = .ok (.iload_n 2, 1) := dk_28 (dk_at dksX8_moved_1 15 rfl rfl)
theorem dX8_moved_39 : decode cX8_moved 39 = .ok (.iadd, 1) := dk_96 (dk_at dksX8_moved_1 16 rfl rfl)
theorem dX8_moved_40 : decode cX8_moved 40 = .ok (.iconst 3, 1) := dk_6 (dk_at dksX8_moved_1 17 rfl rfl)
theorem dX8_moved_41 : decode cX8_moved 41 = .ok (.if_icmp .ge 7, 3) := dk_162 0 7 (dk_at dksX8_moved_1 18 rfl rfl)
theorem dX8_moved_44 : decode cX8_moved 44 = .ok (.iconst 1, 1) := dk_4 (dk_at dksX8_moved_1 21 rfl rfl)
theorem dX8_moved_45 : decode cX8_moved 45 = .ok (.goto 4, 3) := dk_167 0 4 (dk_at dksX8_moved_2 0 rfl rfl)
theorem dX8_moved_48 : decode cX8_moved 48 = .ok (.iconst 0, 1) := dk_3 (dk_at dksX8_moved_2 3 rfl rfl)
theorem dX8_moved_49 : decode cX8_moved 49 = .ok (.istore 5, 2) := dk_54 5 (dk_at dksX8_moved_2 4 rfl rfl)
theorem dX8_moved_51 : decode cX8_moved 51 = .ok (.iload_n 2, 1) := dk_28 (dk_at dksX8_moved_2 6 rfl rfl)
theorem dX8_moved_52 : decode cX8_moved 52 = .ok (.ifCond .eq 8, 3) := dk_153 0 8 (dk_at dksX8_moved_2 7 rfl rfl)
theorem dX8_moved_55 : decode cX8_moved 55 = .ok (.iload 5, 2) := dk_21 5 (dk_at dksX8_moved_2 10 rfl rfl)
theorem dX8_moved_57 : decode cX8_moved 57 = .ok (.ifCond .eq 11, 3) := dk_153 0 11 (dk_at dksX8_moved_2 12 rfl rfl)
theorem dX8_moved_60 : decode cX8_moved 60 = .ok (.aload_n 3, 1) := dk_45 (dk_at dksX8_moved_2 15 rfl rfl)
theorem dX8_moved_61 : decode cX8_moved 61 = .ok (.iload 4, 2) := dk_21 4 (dk_at dksX8_moved_2 16 rfl rfl)
theorem dX8_moved_63 : decode cX8_moved 63 = .ok (.iload_n 2, 1) := dk_28 (dk_at dksX8_moved_2 18 rfl rfl)
theorem dX8_moved_64 : decode cX8_moved 64 = .ok (.iadd, 1) := dk_96 (dk_at dksX8_moved_2 19 rfl rfl)
theorem dX8_moved_65 : decode cX8_moved 65 = .ok (.invokevirtual 159, 3) := dk_182 0 159 (dk_at dksX8_moved_2 20 rfl rfl)
theorem dX8_moved_68 : decode cX8_moved 68 = .ok (.aload_n 1, 1) := dk_43 (dk_at dksX8_moved_2 23 rfl rfl)
theorem dX8_moved_69 : decode cX8_moved 69 = .ok (.iload 4, 2) := dk_21 4 (dk_at dksX8_moved_3 0 rfl rfl)
theorem dX8_moved_71 : decode cX8_moved 71 = .ok (.iconst 1, 1) := dk_4 (dk_at dksX8_moved_3 2 rfl rfl)
theorem dX8_moved_72 : decode cX8_moved 72 = .ok (.iadd, 1) := dk_96 (dk_at dksX8_moved_3 3 rfl rfl)
theorem dX8_moved_73 : decode cX8_moved 73 = .ok (.invokevirtual 203, 3) := dk_182 0 203 (dk_at dksX8_moved_3 4 rfl rfl)
theorem dX8_moved_76 : decode cX8_moved 76 = .ok (.istore 4, 2) := dk_54 4 (dk_at dksX8_moved_3 7 rfl rfl)
theorem dX8_moved_78 : decode cX8_moved 78 = .ok (.goto (-63), 3) := dk_167 255 193 (dk_at dksX8_moved_3 9 rfl rfl)
theorem dX8_moved_81 : decode cX8_moved 81 = .ok (.aload_n 3, 1) := dk_45 (dk_at dksX8_moved_3 12 rfl rfl)
theorem dX8_moved_82 : decode cX8_moved 82 = .ok (.areturn, 1) := dk_176 (dk_at dksX8_moved_3 13 rfl rfl)
abbrev cX8_countFacts : ByteArray := prog_2_method_16_code
def yX8_countFacts : MethodName := ⟨RX8, "countFacts", "()I"⟩
def dkwX8_countFacts_1 : List UInt8 := [192, 0, 81, 182, 0, 213, 180, 0, 83, 182, 1, 11, 96, 60, 132, 2, 1, 167, 255, 219, 27, 172]
abbrev dktX8_countFacts_1 : List UInt8 := dkwX8_countFacts_1 ++ []
def dkwX8_countFacts_0 : List UInt8 := [3, 60, 3, 61, 28, 42, 180, 0, 12, 182, 0, 56, 162, 0, 32, 27, 42, 180, 0, 12, 28, 182, 0, 60]
abbrev dktX8_countFacts_0 : List UInt8 := dkwX8_countFacts_0 ++ dktX8_countFacts_1
theorem dksX8_countFacts_0 : cX8_countFacts.data.toList.drop 0 = dktX8_countFacts_0 := by decide +kernel
theorem dksX8_countFacts_1 : cX8_countFacts.data.toList.drop 24 = dktX8_countFacts_1 := dk_seg dksX8_countFacts_0 24 rfl rfl
theorem dX8_countFacts_0 : decode cX8_countFacts 0 = .ok (.iconst 0, 1) := dk_3 (dk_at dksX8_countFacts_0 0 rfl rfl)
theorem dX8_countFacts_1 : decode cX8_countFacts 1 = .ok (.istore_n 1, 1) := dk_60 (dk_at dksX8_countFacts_0 1 rfl rfl)
theorem dX8_countFacts_2 : decode cX8_countFacts 2 = .ok (.iconst 0, 1) := dk_3 (dk_at dksX8_countFacts_0 2 rfl rfl)
theorem dX8_countFacts_3 : decode cX8_countFacts 3 = .ok (.istore_n 2, 1) := dk_61 (dk_at dksX8_countFacts_0 3 rfl rfl)
theorem dX8_countFacts_4 : decode cX8_countFacts 4 = .ok (.iload_n 2, 1) := dk_28 (dk_at dksX8_countFacts_0 4 rfl rfl)
theorem dX8_countFacts_5 : decode cX8_countFacts 5 = .ok (.aload_n 0, 1) := dk_42 (dk_at dksX8_countFacts_0 5 rfl rfl)
theorem dX8_countFacts_6 : decode cX8_countFacts 6 = .ok (.getfield 12, 3) := dk_180 0 12 (dk_at dksX8_countFacts_0 6 rfl rfl)
theorem dX8_countFacts_9 : decode cX8_countFacts 9 = .ok (.invokevirtual 56, 3) := dk_182 0 56 (dk_at dksX8_countFacts_0 9 rfl rfl)
theorem dX8_countFacts_12 : decode cX8_countFacts 12 = .ok (.if_icmp .ge 32, 3) := dk_162 0 32 (dk_at dksX8_countFacts_0 12 rfl rfl)
theorem dX8_countFacts_15 : decode cX8_countFacts 15 = .ok (.iload_n 1, 1) := dk_27 (dk_at dksX8_countFacts_0 15 rfl rfl)
theorem dX8_countFacts_16 : decode cX8_countFacts 16 = .ok (.aload_n 0, 1) := dk_42 (dk_at dksX8_countFacts_0 16 rfl rfl)
theorem dX8_countFacts_17 : decode cX8_countFacts 17 = .ok (.getfield 12, 3) := dk_180 0 12 (dk_at dksX8_countFacts_0 17 rfl rfl)
theorem dX8_countFacts_20 : decode cX8_countFacts 20 = .ok (.iload_n 2, 1) := dk_28 (dk_at dksX8_countFacts_0 20 rfl rfl)
theorem dX8_countFacts_21 : decode cX8_countFacts 21 = .ok (.invokevirtual 60, 3) := dk_182 0 60 (dk_at dksX8_countFacts_0 21 rfl rfl)
theorem dX8_countFacts_24 : decode cX8_countFacts 24 = .ok (.checkcast 81, 3) := dk_192 0 81 (dk_at dksX8_countFacts_1 0 rfl rfl)
theorem dX8_countFacts_27 : decode cX8_countFacts 27 = .ok (.invokevirtual 213, 3) := dk_182 0 213 (dk_at dksX8_countFacts_1 3 rfl rfl)
theorem dX8_countFacts_30 : decode cX8_countFacts 30 = .ok (.getfield 83, 3) := dk_180 0 83 (dk_at dksX8_countFacts_1 6 rfl rfl)
theorem dX8_countFacts_33 : decode cX8_countFacts 33 = .ok (.invokevirtual 267, 3) := dk_182 1 11 (dk_at dksX8_countFacts_1 9 rfl rfl)
theorem dX8_countFacts_36 : decode cX8_countFacts 36 = .ok (.iadd, 1) := dk_96 (dk_at dksX8_countFacts_1 12 rfl rfl)
theorem dX8_countFacts_37 : decode cX8_countFacts 37 = .ok (.istore_n 1, 1) := dk_60 (dk_at dksX8_countFacts_1 13 rfl rfl)
theorem dX8_countFacts_38 : decode cX8_countFacts 38 = .ok (.iinc 2 1, 3) := dk_132 2 1 (dk_at dksX8_countFacts_1 14 rfl rfl)
theorem dX8_countFacts_41 : decode cX8_countFacts 41 = .ok (.goto (-37), 3) := dk_167 255 219 (dk_at dksX8_countFacts_1 17 rfl rfl)
theorem dX8_countFacts_44 : decode cX8_countFacts 44 = .ok (.iload_n 1, 1) := dk_27 (dk_at dksX8_countFacts_1 20 rfl rfl)
theorem dX8_countFacts_45 : decode cX8_countFacts 45 = .ok (.ireturn, 1) := dk_172 (dk_at dksX8_countFacts_1 21 rfl rfl)
abbrev cX8_pointsTo : ByteArray := prog_2_method_15_code
def yX8_pointsTo : MethodName := ⟨RX8, "pointsTo", "(I)J"⟩
def dkwX8_pointsTo_2 : List UInt8 := [192, 0, 81, 182, 1, 7, 167, 0, 4, 9, 129, 65, 132, 4, 1, 167, 255, 199, 32, 173]
abbrev dktX8_pointsTo_2 : List UInt8 := dkwX8_pointsTo_2 ++ []
def dkwX8_pointsTo_1 : List UInt8 := [182, 0, 60, 192, 0, 81, 180, 1, 4, 27, 160, 0, 22, 42, 42, 180, 0, 12, 21, 4, 182, 0, 60]
abbrev dktX8_pointsTo_1 : List UInt8 := dkwX8_pointsTo_1 ++ dktX8_pointsTo_2
def dkwX8_pointsTo_0 : List UInt8 := [9, 65, 3, 54, 4, 21, 4, 42, 180, 0, 12, 182, 0, 56, 162, 0, 51, 32, 42, 180, 0, 12, 21, 4]
abbrev dktX8_pointsTo_0 : List UInt8 := dkwX8_pointsTo_0 ++ dktX8_pointsTo_1
theorem dksX8_pointsTo_0 : cX8_pointsTo.data.toList.drop 0 = dktX8_pointsTo_0 := by decide +kernel
theorem dksX8_pointsTo_1 : cX8_pointsTo.data.toList.drop 24 = dktX8_pointsTo_1 := dk_seg dksX8_pointsTo_0 24 rfl rfl
theorem dksX8_pointsTo_2 : cX8_pointsTo.data.toList.drop 47 = dktX8_pointsTo_2 := dk_seg dksX8_pointsTo_1 23 rfl rfl
theorem dX8_pointsTo_0 : decode cX8_pointsTo 0 = .ok (.lconst 0, 1) := dk_9 (dk_at dksX8_pointsTo_0 0 rfl rfl)
theorem dX8_pointsTo_1 : decode cX8_pointsTo 1 = .ok (.lstore_n 2, 1) := dk_65 (dk_at dksX8_pointsTo_0 1 rfl rfl)
theorem dX8_pointsTo_2 : decode cX8_pointsTo 2 = .ok (.iconst 0, 1) := dk_3 (dk_at dksX8_pointsTo_0 2 rfl rfl)
theorem dX8_pointsTo_3 : decode cX8_pointsTo 3 = .ok (.istore 4, 2) := dk_54 4 (dk_at dksX8_pointsTo_0 3 rfl rfl)
theorem dX8_pointsTo_5 : decode cX8_pointsTo 5 = .ok (.iload 4, 2) := dk_21 4 (dk_at dksX8_pointsTo_0 5 rfl rfl)
theorem dX8_pointsTo_7 : decode cX8_pointsTo 7 = .ok (.aload_n 0, 1) := dk_42 (dk_at dksX8_pointsTo_0 7 rfl rfl)
theorem dX8_pointsTo_8 : decode cX8_pointsTo 8 = .ok (.getfield 12, 3) := dk_180 0 12 (dk_at dksX8_pointsTo_0 8 rfl rfl)
theorem dX8_pointsTo_11 : decode cX8_pointsTo 11 = .ok (.invokevirtual 56, 3) := dk_182 0 56 (dk_at dksX8_pointsTo_0 11 rfl rfl)
theorem dX8_pointsTo_14 : decode cX8_pointsTo 14 = .ok (.if_icmp .ge 51, 3) := dk_162 0 51 (dk_at dksX8_pointsTo_0 14 rfl rfl)
theorem dX8_pointsTo_17 : decode cX8_pointsTo 17 = .ok (.lload_n 2, 1) := dk_32 (dk_at dksX8_pointsTo_0 17 rfl rfl)
theorem dX8_pointsTo_18 : decode cX8_pointsTo 18 = .ok (.aload_n 0, 1) := dk_42 (dk_at dksX8_pointsTo_0 18 rfl rfl)
theorem dX8_pointsTo_19 : decode cX8_pointsTo 19 = .ok (.getfield 12, 3) := dk_180 0 12 (dk_at dksX8_pointsTo_0 19 rfl rfl)
theorem dX8_pointsTo_22 : decode cX8_pointsTo 22 = .ok (.iload 4, 2) := dk_21 4 (dk_at dksX8_pointsTo_0 22 rfl rfl)
theorem dX8_pointsTo_24 : decode cX8_pointsTo 24 = .ok (.invokevirtual 60, 3) := dk_182 0 60 (dk_at dksX8_pointsTo_1 0 rfl rfl)
theorem dX8_pointsTo_27 : decode cX8_pointsTo 27 = .ok (.checkcast 81, 3) := dk_192 0 81 (dk_at dksX8_pointsTo_1 3 rfl rfl)
theorem dX8_pointsTo_30 : decode cX8_pointsTo 30 = .ok (.getfield 260, 3) := dk_180 1 4 (dk_at dksX8_pointsTo_1 6 rfl rfl)
theorem dX8_pointsTo_33 : decode cX8_pointsTo 33 = .ok (.iload_n 1, 1) := dk_27 (dk_at dksX8_pointsTo_1 9 rfl rfl)
theorem dX8_pointsTo_34 : decode cX8_pointsTo 34 = .ok (.if_icmp .ne 22, 3) := dk_160 0 22 (dk_at dksX8_pointsTo_1 10 rfl rfl)
theorem dX8_pointsTo_37 : decode cX8_pointsTo 37 = .ok (.aload_n 0, 1) := dk_42 (dk_at dksX8_pointsTo_1 13 rfl rfl)
theorem dX8_pointsTo_38 : decode cX8_pointsTo 38 = .ok (.aload_n 0, 1) := dk_42 (dk_at dksX8_pointsTo_1 14 rfl rfl)
theorem dX8_pointsTo_39 : decode cX8_pointsTo 39 = .ok (.getfield 12, 3) := dk_180 0 12 (dk_at dksX8_pointsTo_1 15 rfl rfl)
theorem dX8_pointsTo_42 : decode cX8_pointsTo 42 = .ok (.iload 4, 2) := dk_21 4 (dk_at dksX8_pointsTo_1 18 rfl rfl)
theorem dX8_pointsTo_44 : decode cX8_pointsTo 44 = .ok (.invokevirtual 60, 3) := dk_182 0 60 (dk_at dksX8_pointsTo_1 20 rfl rfl)
theorem dX8_pointsTo_47 : decode cX8_pointsTo 47 = .ok (.checkcast 81, 3) := dk_192 0 81 (dk_at dksX8_pointsTo_2 0 rfl rfl)
theorem dX8_pointsTo_50 : decode cX8_pointsTo 50 = .ok (.invokevirtual 263, 3) := dk_182 1 7 (dk_at dksX8_pointsTo_2 3 rfl rfl)
theorem dX8_pointsTo_53 : decode cX8_pointsTo 53 = .ok (.goto 4, 3) := dk_167 0 4 (dk_at dksX8_pointsTo_2 6 rfl rfl)
theorem dX8_pointsTo_56 : decode cX8_pointsTo 56 = .ok (.lconst 0, 1) := dk_9 (dk_at dksX8_pointsTo_2 9 rfl rfl)
theorem dX8_pointsTo_57 : decode cX8_pointsTo 57 = .ok (.lor, 1) := dk_129 (dk_at dksX8_pointsTo_2 10 rfl rfl)
theorem dX8_pointsTo_58 : decode cX8_pointsTo 58 = .ok (.lstore_n 2, 1) := dk_65 (dk_at dksX8_pointsTo_2 11 rfl rfl)
theorem dX8_pointsTo_59 : decode cX8_pointsTo 59 = .ok (.iinc 4 1, 3) := dk_132 4 1 (dk_at dksX8_pointsTo_2 12 rfl rfl)
theorem dX8_pointsTo_62 : decode cX8_pointsTo 62 = .ok (.goto (-57), 3) := dk_167 255 199 (dk_at dksX8_pointsTo_2 15 rfl rfl)
theorem dX8_pointsTo_65 : decode cX8_pointsTo 65 = .ok (.lload_n 2, 1) := dk_32 (dk_at dksX8_pointsTo_2 18 rfl rfl)
theorem dX8_pointsTo_66 : decode cX8_pointsTo 66 = .ok (.lreturn, 1) := dk_173 (dk_at dksX8_pointsTo_2 19 rfl rfl)
abbrev cX8_codes : ByteArray := prog_2_method_14_code
def yX8_codes : MethodName := ⟨RX8, "codes", "(LPointerAnalyzer$Cell;)J"⟩
def dkwX8_codes_2 : List UInt8 := [4, 96, 182, 0, 203, 54, 5, 167, 255, 220, 32, 173]
abbrev dktX8_codes_2 : List UInt8 := dkwX8_codes_2 ++ []
def dkwX8_codes_1 : List UInt8 := [32, 10, 42, 180, 0, 12, 21, 5, 182, 0, 60, 192, 0, 81, 180, 1, 4, 121, 129, 65, 25, 4, 21, 5]
abbrev dktX8_codes_1 : List UInt8 := dkwX8_codes_1 ++ dktX8_codes_2
def dkwX8_codes_0 : List UInt8 := [9, 65, 43, 182, 0, 213, 180, 0, 83, 58, 4, 25, 4, 3, 182, 0, 203, 54, 5, 21, 5, 155, 0, 37]
abbrev dktX8_codes_0 : List UInt8 := dkwX8_codes_0 ++ dktX8_codes_1
theorem dksX8_codes_0 : cX8_codes.data.toList.drop 0 = dktX8_codes_0 := by decide +kernel
theorem dksX8_codes_1 : cX8_codes.data.toList.drop 24 = dktX8_codes_1 := dk_seg dksX8_codes_0 24 rfl rfl
theorem dksX8_codes_2 : cX8_codes.data.toList.drop 48 = dktX8_codes_2 := dk_seg dksX8_codes_1 24 rfl rfl
theorem dX8_codes_0 : decode cX8_codes 0 = .ok (.lconst 0, 1) := dk_9 (dk_at dksX8_codes_0 0 rfl rfl)
theorem dX8_codes_1 : decode cX8_codes 1 = .ok (.lstore_n 2, 1) := dk_65 (dk_at dksX8_codes_0 1 rfl rfl)
theorem dX8_codes_2 : decode cX8_codes 2 = .ok (.aload_n 1, 1) := dk_43 (dk_at dksX8_codes_0 2 rfl rfl)
theorem dX8_codes_3 : decode cX8_codes 3 = .ok (.invokevirtual 213, 3) := dk_182 0 213 (dk_at dksX8_codes_0 3 rfl rfl)
theorem dX8_codes_6 : decode cX8_codes 6 = .ok (.getfield 83, 3) := dk_180 0 83 (dk_at dksX8_codes_0 6 rfl rfl)
theorem dX8_codes_9 : decode cX8_codes 9 = .ok (.astore 4, 2) := dk_58 4 (dk_at dksX8_codes_0 9 rfl rfl)
theorem dX8_codes_11 : decode cX8_codes 11 = .ok (.aload 4, 2) := dk_25 4 (dk_at dksX8_codes_0 11 rfl rfl)
theorem dX8_codes_13 : decode cX8_codes 13 = .ok (.iconst 0, 1) := dk_3 (dk_at dksX8_codes_0 13 rfl rfl)
theorem dX8_codes_14 : decode cX8_codes 14 = .ok (.invokevirtual 203, 3) := dk_182 0 203 (dk_at dksX8_codes_0 14 rfl rfl)
theorem dX8_codes_17 : decode cX8_codes 17 = .ok (.istore 5, 2) := dk_54 5 (dk_at dksX8_codes_0 17 rfl rfl)
theorem dX8_codes_19 : decode cX8_codes 19 = .ok (.iload 5, 2) := dk_21 5 (dk_at dksX8_codes_0 19 rfl rfl)
theorem dX8_codes_21 : decode cX8_codes 21 = .ok (.ifCond .lt 37, 3) := dk_155 0 37 (dk_at dksX8_codes_0 21 rfl rfl)
theorem dX8_codes_24 : decode cX8_codes 24 = .ok (.lload_n 2, 1) := dk_32 (dk_at dksX8_codes_1 0 rfl rfl)
theorem dX8_codes_25 : decode cX8_codes 25 = .ok (.lconst 1, 1) := dk_10 (dk_at dksX8_codes_1 1 rfl rfl)
theorem dX8_codes_26 : decode cX8_codes 26 = .ok (.aload_n 0, 1) := dk_42 (dk_at dksX8_codes_1 2 rfl rfl)
theorem dX8_codes_27 : decode cX8_codes 27 = .ok (.getfield 12, 3) := dk_180 0 12 (dk_at dksX8_codes_1 3 rfl rfl)
theorem dX8_codes_30 : decode cX8_codes 30 = .ok (.iload 5, 2) := dk_21 5 (dk_at dksX8_codes_1 6 rfl rfl)
theorem dX8_codes_32 : decode cX8_codes 32 = .ok (.invokevirtual 60, 3) := dk_182 0 60 (dk_at dksX8_codes_1 8 rfl rfl)
theorem dX8_codes_35 : decode cX8_codes 35 = .ok (.checkcast 81, 3) := dk_192 0 81 (dk_at dksX8_codes_1 11 rfl rfl)
theorem dX8_codes_38 : decode cX8_codes 38 = .ok (.getfield 260, 3) := dk_180 1 4 (dk_at dksX8_codes_1 14 rfl rfl)
theorem dX8_codes_41 : decode cX8_codes 41 = .ok (.lshl, 1) := dk_121 (dk_at dksX8_codes_1 17 rfl rfl)
theorem dX8_codes_42 : decode cX8_codes 42 = .ok (.lor, 1) := dk_129 (dk_at dksX8_codes_1 18 rfl rfl)
theorem dX8_codes_43 : decode cX8_codes 43 = .ok (.lstore_n 2, 1) := dk_65 (dk_at dksX8_codes_1 19 rfl rfl)
theorem dX8_codes_44 : decode cX8_codes 44 = .ok (.aload 4, 2) := dk_25 4 (dk_at dksX8_codes_1 20 rfl rfl)
theorem dX8_codes_46 : decode cX8_codes 46 = .ok (.iload 5, 2) := dk_21 5 (dk_at dksX8_codes_1 22 rfl rfl)
theorem dX8_codes_48 : decode cX8_codes 48 = .ok (.iconst 1, 1) := dk_4 (dk_at dksX8_codes_2 0 rfl rfl)
theorem dX8_codes_49 : decode cX8_codes 49 = .ok (.iadd, 1) := dk_96 (dk_at dksX8_codes_2 1 rfl rfl)
theorem dX8_codes_50 : decode cX8_codes 50 = .ok (.invokevirtual 203, 3) := dk_182 0 203 (dk_at dksX8_codes_2 2 rfl rfl)
theorem dX8_codes_53 : decode cX8_codes 53 = .ok (.istore 5, 2) := dk_54 5 (dk_at dksX8_codes_2 5 rfl rfl)
theorem dX8_codes_55 : decode cX8_codes 55 = .ok (.goto (-36), 3) := dk_167 255 220 (dk_at dksX8_codes_2 7 rfl rfl)
theorem dX8_codes_58 : decode cX8_codes 58 = .ok (.lload_n 2, 1) := dk_32 (dk_at dksX8_codes_2 10 rfl rfl)
theorem dX8_codes_59 : decode cX8_codes 59 = .ok (.lreturn, 1) := dk_173 (dk_at dksX8_codes_2 11 rfl rfl)
theorem q169 : (Jvm.Cond.initialized "PointerAnalyzer$Analysis") ∈ lw_all := lw_g (lw_at lw_m1 47 rfl) rfl
theorem q339 : (Jvm.Cond.selects "PointerAnalyzer$Analysis" ({ cls := "java/lang/Object", name := "getClass", desc := "()Ljava/lang/Class;" } : Jvm.MethodName) ({ cls := "java/lang/Object", name := "getClass", desc := "()Ljava/lang/Class;" } : Jvm.MethodName)) ∈ lw_all := lw_g (lw_at lw_m1 217 rfl) rfl
theorem q701 : (Jvm.Cond.fieldLinkNest "PointerAnalyzer$Analysis" (51 : Nat) "PointerAnalyzer$Program" "statements" "Ljava/util/ArrayList;" "PointerAnalyzer") ∈ lw_tbl := lw_at lw_m3 99 rfl
theorem q708 : (Jvm.Cond.fieldLinkNest "PointerAnalyzer$Analysis" (125 : Nat) "PointerAnalyzer$Program" "sites" "I" "PointerAnalyzer") ∈ lw_tbl := lw_at lw_m3 106 rfl
theorem q758 : (Jvm.Cond.selects "PointerAnalyzer$Analysis" ({ cls := "java/lang/Object", name := "equals", desc := "(Ljava/lang/Object;)Z" } : Jvm.MethodName) ({ cls := "java/lang/Object", name := "equals", desc := "(Ljava/lang/Object;)Z" } : Jvm.MethodName)) ∈ lw_all := lw_g (lw_at lw_m3 156 rfl) rfl
theorem q1173 : (Jvm.Cond.fieldLinkNest "PointerAnalyzer$Analysis" (190 : Nat) "PointerAnalyzer$Statement" "number" "I" "PointerAnalyzer") ∈ lw_tbl := lw_at lw_m5 91 rfl
theorem q1176 : (Jvm.Cond.fieldLinkNest "PointerAnalyzer$Analysis" (66 : Nat) "PointerAnalyzer$Statement" "function" "I" "PointerAnalyzer") ∈ lw_tbl := lw_at lw_m5 94 rfl
theorem q1186 : (Jvm.Cond.fieldLinkNest "PointerAnalyzer$Analysis" (131 : Nat) "PointerAnalyzer$Statement" "line" "LPointerAnalyzer$Line;" "PointerAnalyzer") ∈ lw_tbl := lw_at lw_m5 104 rfl
theorem q1192 : (Jvm.Cond.fieldLinkNest "PointerAnalyzer$Analysis" (171 : Nat) "PointerAnalyzer$Statement" "site" "I" "PointerAnalyzer") ∈ lw_tbl := lw_at lw_m5 110 rfl
theorem q1298 : (Jvm.Cond.instantiable "PointerAnalyzer$Analysis" (6 : Nat)) ∈ lw_all := lw_g (lw_at lw_m5 216 rfl) rfl
theorem q1300 : (Jvm.Cond.instanceMethod ({ cls := "PointerAnalyzer$Analysis", name := "<init>", desc := "(LPointerAnalyzer$Program;I)V" } : Jvm.MethodName)) ∈ lw_all := lw_g (lw_at lw_m5 218 rfl) rfl
theorem q1301 : (Jvm.Cond.code ({ cls := "PointerAnalyzer$Analysis", name := "<init>", desc := "(LPointerAnalyzer$Program;I)V" } : Jvm.MethodName) prog_2_method_1_code (6 : Nat) (Option.none : Option Jvm.ClassFile.FieldType)) ∈ lw_all := lw_g (lw_at lw_m5 219 rfl) rfl
theorem q1302 : (Jvm.Cond.methodLink "PointerAnalyzer$Analysis" (3 : Nat) ({ cls := "java/lang/Object", name := "<init>", desc := "()V" } : Jvm.MethodName)) ∈ lw_all := lw_g (lw_at lw_m5 220 rfl) rfl
theorem q1303 : (Jvm.Cond.classLink "PointerAnalyzer$Analysis" (9 : Nat) "java/util/ArrayList") ∈ lw_all := lw_g (lw_at lw_m5 221 rfl) rfl
theorem q1304 : (Jvm.Cond.methodLink "PointerAnalyzer$Analysis" (11 : Nat) ({ cls := "java/util/ArrayList", name := "<init>", desc := "()V" } : Jvm.MethodName)) ∈ lw_all := lw_g (lw_at lw_m5 222 rfl) rfl
theorem q1305 : (Jvm.Cond.classLink "PointerAnalyzer$Analysis" (22 : Nat) "java/util/PriorityQueue") ∈ lw_all := lw_g (lw_at lw_m5 223 rfl) rfl
theorem q1307 : (Jvm.Cond.classLink "PointerAnalyzer$Analysis" (24 : Nat) "PointerAnalyzer$FewestFirst") ∈ lw_all := lw_g (lw_at lw_m5 225 rfl) rfl
theorem q1309 : (Jvm.Cond.methodLinkNest "PointerAnalyzer$Analysis" (26 : Nat) ({ cls := "PointerAnalyzer$FewestFirst", name := "<init>", desc := "()V" } : Jvm.MethodName) "PointerAnalyzer") ∈ lw_tbl := lw_at lw_m5 227 rfl
theorem q1315 : (Jvm.Cond.methodLink "PointerAnalyzer$Analysis" (27 : Nat) ({ cls := "java/util/PriorityQueue", name := "<init>", desc := "(ILjava/util/Comparator;)V" } : Jvm.MethodName)) ∈ lw_all := lw_g (lw_at lw_m5 233 rfl) rfl
theorem q1354 : (Jvm.Cond.classLink "PointerAnalyzer$Analysis" (38 : Nat) "PointerAnalyzer$Contexts") ∈ lw_all := lw_g (lw_at lw_m6 32 rfl) rfl
theorem q1356 : (Jvm.Cond.methodLink "PointerAnalyzer$Analysis" (40 : Nat) ({ cls := "PointerAnalyzer$Contexts", name := "<init>", desc := "(LPointerAnalyzer$Program;I)V" } : Jvm.MethodName)) ∈ lw_all := lw_g (lw_at lw_m6 34 rfl) rfl
theorem q1551 : (Jvm.Cond.fieldLinkNest "PointerAnalyzer$Analysis" (185 : Nat) "PointerAnalyzer$Contexts" "sorted" "Ljava/util/ArrayList;" "PointerAnalyzer") ∈ lw_tbl := lw_at lw_m6 229 rfl
theorem q1556 : (Jvm.Cond.methodLink "PointerAnalyzer$Analysis" (47 : Nat) ({ cls := "PointerAnalyzer$Analysis", name := "makeCells", desc := "(I)V" } : Jvm.MethodName)) ∈ lw_all := lw_g (lw_at lw_m6 234 rfl) rfl
theorem q1557 : (Jvm.Cond.privateMethod ({ cls := "PointerAnalyzer$Analysis", name := "makeCells", desc := "(I)V" } : Jvm.MethodName)) ∈ lw_tbl := lw_at lw_m6 235 rfl
theorem q1558 : (Jvm.Cond.instanceMethod ({ cls := "PointerAnalyzer$Analysis", name := "makeCells", desc := "(I)V" } : Jvm.MethodName)) ∈ lw_all := lw_g (lw_at lw_m6 236 rfl) rfl
theorem q1559 : (Jvm.Cond.code ({ cls := "PointerAnalyzer$Analysis", name := "makeCells", desc := "(I)V" } : Jvm.MethodName) prog_2_method_3_code (4 : Nat) (Option.none : Option Jvm.ClassFile.FieldType)) ∈ lw_all := lw_g (lw_at lw_m6 237 rfl) rfl
theorem q1560 : (Jvm.Cond.methodLink "PointerAnalyzer$Analysis" (116 : Nat) ({ cls := "PointerAnalyzer$Analysis", name := "add", desc := "(I)V" } : Jvm.MethodName)) ∈ lw_all := lw_g (lw_at lw_m6 238 rfl) rfl
theorem q1561 : (Jvm.Cond.privateMethod ({ cls := "PointerAnalyzer$Analysis", name := "add", desc := "(I)V" } : Jvm.MethodName)) ∈ lw_tbl := lw_at lw_m6 239 rfl
theorem q1562 : (Jvm.Cond.instanceMethod ({ cls := "PointerAnalyzer$Analysis", name := "add", desc := "(I)V" } : Jvm.MethodName)) ∈ lw_all := lw_g (lw_at lw_m7 0 rfl) rfl
theorem q1563 : (Jvm.Cond.code ({ cls := "PointerAnalyzer$Analysis", name := "add", desc := "(I)V" } : Jvm.MethodName) prog_2_method_2_code (2 : Nat) (Option.none : Option Jvm.ClassFile.FieldType)) ∈ lw_all := lw_g (lw_at lw_m7 1 rfl) rfl
theorem q1564 : (Jvm.Cond.classLink "PointerAnalyzer$Analysis" (81 : Nat) "PointerAnalyzer$Cell") ∈ lw_all := lw_g (lw_at lw_m7 2 rfl) rfl
theorem q1566 : (Jvm.Cond.methodLink "PointerAnalyzer$Analysis" (56 : Nat) ({ cls := "java/util/ArrayList", name := "size", desc := "()I" } : Jvm.MethodName)) ∈ lw_all := lw_g (lw_at lw_m7 4 rfl) rfl
theorem q1567 : (Jvm.Cond.methodLink "PointerAnalyzer$Analysis" (109 : Nat) ({ cls := "PointerAnalyzer$Cell", name := "<init>", desc := "(II)V" } : Jvm.MethodName)) ∈ lw_all := lw_g (lw_at lw_m7 5 rfl) rfl
theorem q1599 : (Jvm.Cond.fieldLinkNest "PointerAnalyzer$Analysis" (156 : Nat) "PointerAnalyzer$Cell" "number" "I" "PointerAnalyzer") ∈ lw_tbl := lw_at lw_m7 37 rfl
theorem q1601 : (Jvm.Cond.fieldLinkNest "PointerAnalyzer$Analysis" (260 : Nat) "PointerAnalyzer$Cell" "code" "I" "PointerAnalyzer") ∈ lw_tbl := lw_at lw_m7 39 rfl
theorem q1603 : (Jvm.Cond.fieldLinkNest "PointerAnalyzer$Analysis" (209 : Nat) "PointerAnalyzer$Cell" "shared" "LPointerAnalyzer$Cell;" "PointerAnalyzer") ∈ lw_tbl := lw_at lw_m7 41 rfl
theorem q1605 : (Jvm.Cond.fieldLinkNest "PointerAnalyzer$Analysis" (83 : Nat) "PointerAnalyzer$Cell" "targets" "Ljava/util/BitSet;" "PointerAnalyzer") ∈ lw_tbl := lw_at lw_m7 43 rfl
theorem q1608 : (Jvm.Cond.fieldLinkNest "PointerAnalyzer$Analysis" (162 : Nat) "PointerAnalyzer$Cell" "edges" "Ljava/util/BitSet;" "PointerAnalyzer") ∈ lw_tbl := lw_at lw_m7 46 rfl
theorem q1610 : (Jvm.Cond.fieldLinkNest "PointerAnalyzer$Analysis" (165 : Nat) "PointerAnalyzer$Cell" "loads" "Ljava/util/ArrayList;" "PointerAnalyzer") ∈ lw_tbl := lw_at lw_m7 48 rfl
theorem q1612 : (Jvm.Cond.fieldLinkNest "PointerAnalyzer$Analysis" (168 : Nat) "PointerAnalyzer$Cell" "stores" "Ljava/util/ArrayList;" "PointerAnalyzer") ∈ lw_tbl := lw_at lw_m7 50 rfl
theorem q1614 : (Jvm.Cond.fieldLinkNest "PointerAnalyzer$Analysis" (174 : Nat) "PointerAnalyzer$Cell" "shifts" "Ljava/util/ArrayList;" "PointerAnalyzer") ∈ lw_tbl := lw_at lw_m7 52 rfl
theorem q1615 : (Jvm.Cond.fieldLinkNest "PointerAnalyzer$Analysis" (102 : Nat) "PointerAnalyzer$Cell" "isWaiting" "Z" "PointerAnalyzer") ∈ lw_tbl := lw_at lw_m7 53 rfl
theorem q1635 : (Jvm.Cond.methodLink "PointerAnalyzer$Analysis" (112 : Nat) ({ cls := "java/util/ArrayList", name := "add", desc := "(Ljava/lang/Object;)Z" } : Jvm.MethodName)) ∈ lw_all := lw_g (lw_at lw_m7 73 rfl) rfl
theorem q1636 : (Jvm.Cond.methodLink "PointerAnalyzer$Analysis" (70 : Nat) ({ cls := "PointerAnalyzer$Contexts", name := "count", desc := "(I)I" } : Jvm.MethodName)) ∈ lw_all := lw_g (lw_at lw_m7 74 rfl) rfl
theorem q1640 : (Jvm.Cond.methodLinkNest "PointerAnalyzer$Analysis" (118 : Nat) ({ cls := "PointerAnalyzer", name := "local", desc := "(II)I" } : Jvm.MethodName) "PointerAnalyzer") ∈ lw_tbl := lw_at lw_m7 78 rfl
theorem q1643 : (Jvm.Cond.methodLink "PointerAnalyzer$Analysis" (60 : Nat) ({ cls := "java/util/ArrayList", name := "get", desc := "(I)Ljava/lang/Object;" } : Jvm.MethodName)) ∈ lw_all := lw_g (lw_at lw_m7 81 rfl) rfl
theorem q1644 : (Jvm.Cond.classLink "PointerAnalyzer$Analysis" (64 : Nat) "PointerAnalyzer$Statement") ∈ lw_all := lw_g (lw_at lw_m7 82 rfl) rfl
theorem q1645 : (Jvm.Cond.methodLink "PointerAnalyzer$Analysis" (74 : Nat) ({ cls := "PointerAnalyzer$Analysis", name := "constrain", desc := "(LPointerAnalyzer$Statement;II)V" } : Jvm.MethodName)) ∈ lw_all := lw_g (lw_at lw_m7 83 rfl) rfl
theorem q1646 : (Jvm.Cond.privateMethod ({ cls := "PointerAnalyzer$Analysis", name := "constrain", desc := "(LPointerAnalyzer$Statement;II)V" } : Jvm.MethodName)) ∈ lw_tbl := lw_at lw_m7 84 rfl
theorem q1647 : (Jvm.Cond.instanceMethod ({ cls := "PointerAnalyzer$Analysis", name := "constrain", desc := "(LPointerAnalyzer$Statement;II)V" } : Jvm.MethodName)) ∈ lw_all := lw_g (lw_at lw_m7 85 rfl) rfl
theorem q1648 : (Jvm.Cond.code ({ cls := "PointerAnalyzer$Analysis", name := "constrain", desc := "(LPointerAnalyzer$Statement;II)V" } : Jvm.MethodName) prog_2_method_5_code (9 : Nat) (Option.none : Option Jvm.ClassFile.FieldType)) ∈ lw_all := lw_g (lw_at lw_m7 86 rfl) rfl
theorem q1649 : (Jvm.Cond.methodLink "PointerAnalyzer$Analysis" (140 : Nat) ({ cls := "PointerAnalyzer$Analysis", name := "cell", desc := "(II)LPointerAnalyzer$Cell;" } : Jvm.MethodName)) ∈ lw_all := lw_g (lw_at lw_m7 87 rfl) rfl
theorem q1650 : (Jvm.Cond.privateMethod ({ cls := "PointerAnalyzer$Analysis", name := "cell", desc := "(II)LPointerAnalyzer$Cell;" } : Jvm.MethodName)) ∈ lw_tbl := lw_at lw_m7 88 rfl
theorem q1651 : (Jvm.Cond.instanceMethod ({ cls := "PointerAnalyzer$Analysis", name := "cell", desc := "(II)LPointerAnalyzer$Cell;" } : Jvm.MethodName)) ∈ lw_all := lw_g (lw_at lw_m7 89 rfl) rfl
theorem q1652 : (Jvm.Cond.code ({ cls := "PointerAnalyzer$Analysis", name := "cell", desc := "(II)LPointerAnalyzer$Cell;" } : Jvm.MethodName) prog_2_method_4_code (4 : Nat) (Option.some (Jvm.ClassFile.FieldType.object "PointerAnalyzer$Cell"))) ∈ lw_all := lw_g (lw_at lw_m7 90 rfl) rfl
theorem q1653 : (Jvm.Cond.methodLinkNest "PointerAnalyzer$Analysis" (128 : Nat) ({ cls := "PointerAnalyzer", name := "ownerOf", desc := "(I)I" } : Jvm.MethodName) "PointerAnalyzer") ∈ lw_tbl := lw_at lw_m7 91 rfl
theorem q1656 : (Jvm.Cond.methodLink "PointerAnalyzer$Analysis" (151 : Nat) ({ cls := "PointerAnalyzer$Kind", name := "ordinal", desc := "()I" } : Jvm.MethodName)) ∈ lw_all := lw_g (lw_at lw_m7 94 rfl) rfl
theorem q1662 : (Jvm.Cond.methodLink "PointerAnalyzer$Analysis" (159 : Nat) ({ cls := "java/util/BitSet", name := "set", desc := "(I)V" } : Jvm.MethodName)) ∈ lw_all := lw_g (lw_at lw_m7 100 rfl) rfl
theorem q1916 : (Jvm.Cond.classLink "PointerAnalyzer$Analysis" (177 : Nat) "PointerAnalyzer$Shift") ∈ lw_all := lw_g (lw_at lw_m8 114 rfl) rfl
theorem q1918 : (Jvm.Cond.methodLink "PointerAnalyzer$Analysis" (182 : Nat) ({ cls := "PointerAnalyzer$Shift", name := "<init>", desc := "(LPointerAnalyzer$Cell;I)V" } : Jvm.MethodName)) ∈ lw_all := lw_g (lw_at lw_m8 116 rfl) rfl
theorem q1923 : (Jvm.Cond.fieldLinkNest "PointerAnalyzer$Analysis" (250 : Nat) "PointerAnalyzer$Shift" "to" "LPointerAnalyzer$Cell;" "PointerAnalyzer") ∈ lw_tbl := lw_at lw_m8 121 rfl
theorem q1925 : (Jvm.Cond.fieldLinkNest "PointerAnalyzer$Analysis" (253 : Nat) "PointerAnalyzer$Shift" "by" "I" "PointerAnalyzer") ∈ lw_tbl := lw_at lw_m8 123 rfl
theorem q1931 : (Jvm.Cond.classLink "PointerAnalyzer$Analysis" (188 : Nat) "PointerAnalyzer$Context") ∈ lw_all := lw_g (lw_at lw_m8 129 rfl) rfl
theorem q1932 : (Jvm.Cond.methodLink "PointerAnalyzer$Analysis" (191 : Nat) ({ cls := "PointerAnalyzer$Context", name := "with", desc := "(II)LPointerAnalyzer$Context;" } : Jvm.MethodName)) ∈ lw_all := lw_g (lw_at lw_m8 130 rfl) rfl
theorem q1933 : (Jvm.Cond.methodLink "PointerAnalyzer$Analysis" (195 : Nat) ({ cls := "PointerAnalyzer$Contexts", name := "indexOf", desc := "(ILPointerAnalyzer$Context;)I" } : Jvm.MethodName)) ∈ lw_all := lw_g (lw_at lw_m8 131 rfl) rfl
theorem q1938 : (Jvm.Cond.methodLink "PointerAnalyzer$Analysis" (78 : Nat) ({ cls := "PointerAnalyzer$Analysis", name := "collapse", desc := "()V" } : Jvm.MethodName)) ∈ lw_all := lw_g (lw_at lw_m8 136 rfl) rfl
theorem q1939 : (Jvm.Cond.privateMethod ({ cls := "PointerAnalyzer$Analysis", name := "collapse", desc := "()V" } : Jvm.MethodName)) ∈ lw_tbl := lw_at lw_m8 137 rfl
theorem q1940 : (Jvm.Cond.instanceMethod ({ cls := "PointerAnalyzer$Analysis", name := "collapse", desc := "()V" } : Jvm.MethodName)) ∈ lw_all := lw_g (lw_at lw_m8 138 rfl) rfl
theorem q1941 : (Jvm.Cond.code ({ cls := "PointerAnalyzer$Analysis", name := "collapse", desc := "()V" } : Jvm.MethodName) prog_2_method_6_code (6 : Nat) (Option.none : Option Jvm.ClassFile.FieldType)) ∈ lw_all := lw_g (lw_at lw_m8 139 rfl) rfl
theorem q1942 : (Jvm.Cond.classLink "PointerAnalyzer$Analysis" (88 : Nat) "java/util/BitSet") ∈ lw_all := lw_g (lw_at lw_m8 140 rfl) rfl
theorem q1944 : (Jvm.Cond.methodLink "PointerAnalyzer$Analysis" (199 : Nat) ({ cls := "PointerAnalyzer$Analysis", name := "reachedFrom", desc := "(I)Ljava/util/BitSet;" } : Jvm.MethodName)) ∈ lw_all := lw_g (lw_at lw_m8 142 rfl) rfl
theorem q1945 : (Jvm.Cond.privateMethod ({ cls := "PointerAnalyzer$Analysis", name := "reachedFrom", desc := "(I)Ljava/util/BitSet;" } : Jvm.MethodName)) ∈ lw_tbl := lw_at lw_m8 143 rfl
theorem q1946 : (Jvm.Cond.instanceMethod ({ cls := "PointerAnalyzer$Analysis", name := "reachedFrom", desc := "(I)Ljava/util/BitSet;" } : Jvm.MethodName)) ∈ lw_all := lw_g (lw_at lw_m8 144 rfl) rfl
theorem q1947 : (Jvm.Cond.code ({ cls := "PointerAnalyzer$Analysis", name := "reachedFrom", desc := "(I)Ljava/util/BitSet;" } : Jvm.MethodName) prog_2_method_7_code (5 : Nat) (Option.some (Jvm.ClassFile.FieldType.object "java/util/BitSet"))) ∈ lw_all := lw_g (lw_at lw_m8 145 rfl) rfl
theorem q1948 : (Jvm.Cond.methodLink "PointerAnalyzer$Analysis" (221 : Nat) ({ cls := "java/util/BitSet", name := "<init>", desc := "()V" } : Jvm.MethodName)) ∈ lw_all := lw_g (lw_at lw_m8 146 rfl) rfl
theorem q1949 : (Jvm.Cond.methodLink "PointerAnalyzer$Analysis" (222 : Nat) ({ cls := "java/util/BitSet", name := "clone", desc := "()Ljava/lang/Object;" } : Jvm.MethodName)) ∈ lw_all := lw_g (lw_at lw_m8 147 rfl) rfl
theorem q1961 : (Jvm.Cond.methodLink "PointerAnalyzer$Analysis" (87 : Nat) ({ cls := "java/util/BitSet", name := "isEmpty", desc := "()Z" } : Jvm.MethodName)) ∈ lw_all := lw_g (lw_at lw_m8 159 rfl) rfl
theorem q1965 : (Jvm.Cond.methodLink "PointerAnalyzer$Analysis" (203 : Nat) ({ cls := "java/util/BitSet", name := "nextSetBit", desc := "(I)I" } : Jvm.MethodName)) ∈ lw_all := lw_g (lw_at lw_m8 163 rfl) rfl
theorem q1972 : (Jvm.Cond.methodLink "PointerAnalyzer$Analysis" (225 : Nat) ({ cls := "java/util/BitSet", name := "clear", desc := "(I)V" } : Jvm.MethodName)) ∈ lw_all := lw_g (lw_at lw_m8 170 rfl) rfl
theorem q1980 : (Jvm.Cond.methodLink "PointerAnalyzer$Analysis" (228 : Nat) ({ cls := "java/util/BitSet", name := "or", desc := "(Ljava/util/BitSet;)V" } : Jvm.MethodName)) ∈ lw_all := lw_g (lw_at lw_m8 178 rfl) rfl
theorem q1986 : (Jvm.Cond.methodLink "PointerAnalyzer$Analysis" (232 : Nat) ({ cls := "java/util/BitSet", name := "andNot", desc := "(Ljava/util/BitSet;)V" } : Jvm.MethodName)) ∈ lw_all := lw_g (lw_at lw_m8 184 rfl) rfl
theorem q1990 : (Jvm.Cond.methodLink "PointerAnalyzer$Analysis" (206 : Nat) ({ cls := "java/util/BitSet", name := "get", desc := "(I)Z" } : Jvm.MethodName)) ∈ lw_all := lw_g (lw_at lw_m8 188 rfl) rfl
theorem q1994 : (Jvm.Cond.methodLink "PointerAnalyzer$Analysis" (213 : Nat) ({ cls := "PointerAnalyzer$Cell", name := "find", desc := "()LPointerAnalyzer$Cell;" } : Jvm.MethodName)) ∈ lw_all := lw_g (lw_at lw_m8 192 rfl) rfl
theorem q1998 : (Jvm.Cond.methodLink "PointerAnalyzer$Analysis" (217 : Nat) ({ cls := "PointerAnalyzer$Analysis", name := "merge", desc := "(LPointerAnalyzer$Cell;LPointerAnalyzer$Cell;)V" } : Jvm.MethodName)) ∈ lw_all := lw_g (lw_at lw_m8 196 rfl) rfl
theorem q1999 : (Jvm.Cond.static ({ cls := "PointerAnalyzer$Analysis", name := "merge", desc := "(LPointerAnalyzer$Cell;LPointerAnalyzer$Cell;)V" } : Jvm.MethodName)) ∈ lw_all := lw_g (lw_at lw_m8 197 rfl) rfl
theorem q2000 : (Jvm.Cond.code ({ cls := "PointerAnalyzer$Analysis", name := "merge", desc := "(LPointerAnalyzer$Cell;LPointerAnalyzer$Cell;)V" } : Jvm.MethodName) prog_2_method_8_code (2 : Nat) (Option.none : Option Jvm.ClassFile.FieldType)) ∈ lw_all := lw_g (lw_at lw_m8 198 rfl) rfl
theorem q2001 : (Jvm.Cond.methodLink "PointerAnalyzer$Analysis" (235 : Nat) ({ cls := "java/util/ArrayList", name := "addAll", desc := "(Ljava/util/Collection;)Z" } : Jvm.MethodName)) ∈ lw_all := lw_g (lw_at lw_m8 199 rfl) rfl
theorem q2006 : (Jvm.Cond.methodLink "PointerAnalyzer$Analysis" (93 : Nat) ({ cls := "PointerAnalyzer$Analysis", name := "push", desc := "(LPointerAnalyzer$Cell;)V" } : Jvm.MethodName)) ∈ lw_all := lw_g (lw_at lw_m8 204 rfl) rfl
theorem q2007 : (Jvm.Cond.privateMethod ({ cls := "PointerAnalyzer$Analysis", name := "push", desc := "(LPointerAnalyzer$Cell;)V" } : Jvm.MethodName)) ∈ lw_tbl := lw_at lw_m8 205 rfl
theorem q2008 : (Jvm.Cond.instanceMethod ({ cls := "PointerAnalyzer$Analysis", name := "push", desc := "(LPointerAnalyzer$Cell;)V" } : Jvm.MethodName)) ∈ lw_all := lw_g (lw_at lw_m8 206 rfl) rfl
theorem q2009 : (Jvm.Cond.code ({ cls := "PointerAnalyzer$Analysis", name := "push", desc := "(LPointerAnalyzer$Cell;)V" } : Jvm.MethodName) prog_2_method_9_code (3 : Nat) (Option.none : Option Jvm.ClassFile.FieldType)) ∈ lw_all := lw_g (lw_at lw_m8 207 rfl) rfl
theorem q2010 : (Jvm.Cond.methodLink "PointerAnalyzer$Analysis" (239 : Nat) ({ cls := "java/util/PriorityQueue", name := "add", desc := "(Ljava/lang/Object;)Z" } : Jvm.MethodName)) ∈ lw_all := lw_g (lw_at lw_m8 208 rfl) rfl
theorem q2038 : (Jvm.Cond.methodLink "PointerAnalyzer$Analysis" (97 : Nat) ({ cls := "java/util/PriorityQueue", name := "isEmpty", desc := "()Z" } : Jvm.MethodName)) ∈ lw_all := lw_g (lw_at lw_m8 236 rfl) rfl
theorem q2044 : (Jvm.Cond.methodLink "PointerAnalyzer$Analysis" (98 : Nat) ({ cls := "java/util/PriorityQueue", name := "poll", desc := "()Ljava/lang/Object;" } : Jvm.MethodName)) ∈ lw_all := lw_g (lw_at lw_m9 2 rfl) rfl
theorem q2054 : (Jvm.Cond.methodLink "PointerAnalyzer$Analysis" (106 : Nat) ({ cls := "PointerAnalyzer$Analysis", name := "flow", desc := "(LPointerAnalyzer$Cell;)V" } : Jvm.MethodName)) ∈ lw_all := lw_g (lw_at lw_m9 12 rfl) rfl
theorem q2055 : (Jvm.Cond.privateMethod ({ cls := "PointerAnalyzer$Analysis", name := "flow", desc := "(LPointerAnalyzer$Cell;)V" } : Jvm.MethodName)) ∈ lw_tbl := lw_at lw_m9 13 rfl
theorem q2056 : (Jvm.Cond.instanceMethod ({ cls := "PointerAnalyzer$Analysis", name := "flow", desc := "(LPointerAnalyzer$Cell;)V" } : Jvm.MethodName)) ∈ lw_all := lw_g (lw_at lw_m9 14 rfl) rfl
theorem q2057 : (Jvm.Cond.code ({ cls := "PointerAnalyzer$Analysis", name := "flow", desc := "(LPointerAnalyzer$Cell;)V" } : Jvm.MethodName) prog_2_method_12_code (5 : Nat) (Option.none : Option Jvm.ClassFile.FieldType)) ∈ lw_all := lw_g (lw_at lw_m9 15 rfl) rfl
theorem q2058 : (Jvm.Cond.methodLink "PointerAnalyzer$Analysis" (247 : Nat) ({ cls := "PointerAnalyzer$Analysis", name := "connect", desc := "(LPointerAnalyzer$Cell;LPointerAnalyzer$Cell;)V" } : Jvm.MethodName)) ∈ lw_all := lw_g (lw_at lw_m9 16 rfl) rfl
theorem q2059 : (Jvm.Cond.privateMethod ({ cls := "PointerAnalyzer$Analysis", name := "connect", desc := "(LPointerAnalyzer$Cell;LPointerAnalyzer$Cell;)V" } : Jvm.MethodName)) ∈ lw_tbl := lw_at lw_m9 17 rfl
theorem q2060 : (Jvm.Cond.instanceMethod ({ cls := "PointerAnalyzer$Analysis", name := "connect", desc := "(LPointerAnalyzer$Cell;LPointerAnalyzer$Cell;)V" } : Jvm.MethodName)) ∈ lw_all := lw_g (lw_at lw_m9 18 rfl) rfl
theorem q2061 : (Jvm.Cond.code ({ cls := "PointerAnalyzer$Analysis", name := "connect", desc := "(LPointerAnalyzer$Cell;LPointerAnalyzer$Cell;)V" } : Jvm.MethodName) prog_2_method_11_code (4 : Nat) (Option.none : Option Jvm.ClassFile.FieldType)) ∈ lw_all := lw_g (lw_at lw_m9 19 rfl) rfl
theorem q2062 : (Jvm.Cond.methodLink "PointerAnalyzer$Analysis" (243 : Nat) ({ cls := "PointerAnalyzer$Analysis", name := "grow", desc := "(LPointerAnalyzer$Cell;Ljava/util/BitSet;)V" } : Jvm.MethodName)) ∈ lw_all := lw_g (lw_at lw_m9 20 rfl) rfl
theorem q2063 : (Jvm.Cond.privateMethod ({ cls := "PointerAnalyzer$Analysis", name := "grow", desc := "(LPointerAnalyzer$Cell;Ljava/util/BitSet;)V" } : Jvm.MethodName)) ∈ lw_tbl := lw_at lw_m9 21 rfl
theorem q2064 : (Jvm.Cond.instanceMethod ({ cls := "PointerAnalyzer$Analysis", name := "grow", desc := "(LPointerAnalyzer$Cell;Ljava/util/BitSet;)V" } : Jvm.MethodName)) ∈ lw_all := lw_g (lw_at lw_m9 22 rfl) rfl
theorem q2065 : (Jvm.Cond.code ({ cls := "PointerAnalyzer$Analysis", name := "grow", desc := "(LPointerAnalyzer$Cell;Ljava/util/BitSet;)V" } : Jvm.MethodName) prog_2_method_10_code (5 : Nat) (Option.none : Option Jvm.ClassFile.FieldType)) ∈ lw_all := lw_g (lw_at lw_m9 23 rfl) rfl
theorem q2066 : (Jvm.Cond.methodLink "PointerAnalyzer$Analysis" (240 : Nat) ({ cls := "java/util/PriorityQueue", name := "remove", desc := "(Ljava/lang/Object;)Z" } : Jvm.MethodName)) ∈ lw_all := lw_g (lw_at lw_m9 24 rfl) rfl
theorem q2083 : (Jvm.Cond.methodLink "PointerAnalyzer$Analysis" (256 : Nat) ({ cls := "PointerAnalyzer$Analysis", name := "moved", desc := "(Ljava/util/BitSet;I)Ljava/util/BitSet;" } : Jvm.MethodName)) ∈ lw_all := lw_g (lw_at lw_m9 41 rfl) rfl
theorem q2084 : (Jvm.Cond.privateMethod ({ cls := "PointerAnalyzer$Analysis", name := "moved", desc := "(Ljava/util/BitSet;I)Ljava/util/BitSet;" } : Jvm.MethodName)) ∈ lw_tbl := lw_at lw_m9 42 rfl
theorem q2085 : (Jvm.Cond.instanceMethod ({ cls := "PointerAnalyzer$Analysis", name := "moved", desc := "(Ljava/util/BitSet;I)Ljava/util/BitSet;" } : Jvm.MethodName)) ∈ lw_all := lw_g (lw_at lw_m9 43 rfl) rfl
theorem q2086 : (Jvm.Cond.code ({ cls := "PointerAnalyzer$Analysis", name := "moved", desc := "(Ljava/util/BitSet;I)Ljava/util/BitSet;" } : Jvm.MethodName) prog_2_method_13_code (6 : Nat) (Option.some (Jvm.ClassFile.FieldType.object "java/util/BitSet"))) ∈ lw_all := lw_g (lw_at lw_m9 44 rfl) rfl
theorem q2087 : (Jvm.Cond.fieldLink "PointerAnalyzer$Analysis" (34 : Nat) "PointerAnalyzer$Analysis" "program" "LPointerAnalyzer$Program;") ∈ lw_all := lw_g (lw_at lw_m9 45 rfl) rfl
theorem q2088 : (Jvm.Cond.fieldLink "PointerAnalyzer$Analysis" (43 : Nat) "PointerAnalyzer$Analysis" "contexts" "LPointerAnalyzer$Contexts;") ∈ lw_all := lw_g (lw_at lw_m9 46 rfl) rfl
theorem q2090 : (Jvm.Cond.fieldLink "PointerAnalyzer$Analysis" (12 : Nat) "PointerAnalyzer$Analysis" "cells" "Ljava/util/ArrayList;") ∈ lw_all := lw_g (lw_at lw_m9 48 rfl) rfl
theorem q2091 : (Jvm.Cond.fieldLink "PointerAnalyzer$Analysis" (18 : Nat) "PointerAnalyzer$Analysis" "firstCells" "[I") ∈ lw_all := lw_g (lw_at lw_m9 49 rfl) rfl
theorem q2092 : (Jvm.Cond.fieldLink "PointerAnalyzer$Analysis" (122 : Nat) "PointerAnalyzer$Analysis" "firstField" "I") ∈ lw_all := lw_g (lw_at lw_m9 50 rfl) rfl
theorem q2093 : (Jvm.Cond.fieldLink "PointerAnalyzer$Analysis" (30 : Nat) "PointerAnalyzer$Analysis" "waiting" "Ljava/util/PriorityQueue;") ∈ lw_all := lw_g (lw_at lw_m9 51 rfl) rfl
theorem q2094 : (Jvm.Cond.laysFinal "PointerAnalyzer$Analysis" "PointerAnalyzer$Analysis" "program" "LPointerAnalyzer$Program;") ∈ lw_all := lw_g (lw_at lw_m9 52 rfl) rfl
theorem q2095 : (Jvm.Cond.soleField "PointerAnalyzer$Analysis" "program") ∈ lw_all := lw_g (lw_at lw_m9 53 rfl) rfl
theorem q2096 : (Jvm.Cond.laysFinal "PointerAnalyzer$Analysis" "PointerAnalyzer$Analysis" "contexts" "LPointerAnalyzer$Contexts;") ∈ lw_all := lw_g (lw_at lw_m9 54 rfl) rfl
theorem q2097 : (Jvm.Cond.soleField "PointerAnalyzer$Analysis" "contexts") ∈ lw_all := lw_g (lw_at lw_m9 55 rfl) rfl
theorem q2098 : (Jvm.Cond.laysFinal "PointerAnalyzer$Analysis" "PointerAnalyzer$Analysis" "cells" "Ljava/util/ArrayList;") ∈ lw_all := lw_g (lw_at lw_m9 56 rfl) rfl
theorem q2099 : (Jvm.Cond.soleField "PointerAnalyzer$Analysis" "cells") ∈ lw_all := lw_g (lw_at lw_m9 57 rfl) rfl
theorem q2100 : (Jvm.Cond.laysFinal "PointerAnalyzer$Analysis" "PointerAnalyzer$Analysis" "firstCells" "[I") ∈ lw_all := lw_g (lw_at lw_m9 58 rfl) rfl
theorem q2101 : (Jvm.Cond.soleField "PointerAnalyzer$Analysis" "firstCells") ∈ lw_all := lw_g (lw_at lw_m9 59 rfl) rfl
theorem q2102 : (Jvm.Cond.lays "PointerAnalyzer$Analysis" "PointerAnalyzer$Analysis" "firstField" "I") ∈ lw_all := lw_g (lw_at lw_m9 60 rfl) rfl
theorem q2103 : (Jvm.Cond.soleField "PointerAnalyzer$Analysis" "firstField") ∈ lw_all := lw_g (lw_at lw_m9 61 rfl) rfl
theorem q2104 : (Jvm.Cond.laysFinal "PointerAnalyzer$Analysis" "PointerAnalyzer$Analysis" "waiting" "Ljava/util/PriorityQueue;") ∈ lw_all := lw_g (lw_at lw_m9 62 rfl) rfl
theorem q2105 : (Jvm.Cond.soleField "PointerAnalyzer$Analysis" "waiting") ∈ lw_all := lw_g (lw_at lw_m9 63 rfl) rfl
theorem q2106 : (Jvm.Cond.superclass "PointerAnalyzer$Analysis" "java/lang/Object") ∈ lw_all := lw_g (lw_at lw_m9 64 rfl) rfl
theorem q2108 : (Jvm.Cond.instanceMethod ({ cls := "PointerAnalyzer$Analysis", name := "countFacts", desc := "()I" } : Jvm.MethodName)) ∈ lw_all := lw_g (lw_at lw_m9 66 rfl) rfl
theorem q2109 : (Jvm.Cond.selects "PointerAnalyzer$Analysis" ({ cls := "PointerAnalyzer$Analysis", name := "countFacts", desc := "()I" } : Jvm.MethodName) ({ cls := "PointerAnalyzer$Analysis", name := "countFacts", desc := "()I" } : Jvm.MethodName)) ∈ lw_all := lw_g (lw_at lw_m9 67 rfl) rfl
theorem q2110 : (Jvm.Cond.code ({ cls := "PointerAnalyzer$Analysis", name := "countFacts", desc := "()I" } : Jvm.MethodName) prog_2_method_16_code (3 : Nat) (Option.some Jvm.ClassFile.FieldType.int)) ∈ lw_all := lw_g (lw_at lw_m9 68 rfl) rfl
theorem q2111 : (Jvm.Cond.methodLink "PointerAnalyzer$Analysis" (267 : Nat) ({ cls := "java/util/BitSet", name := "cardinality", desc := "()I" } : Jvm.MethodName)) ∈ lw_all := lw_g (lw_at lw_m9 69 rfl) rfl
theorem q2121 : (Jvm.Cond.instanceMethod ({ cls := "PointerAnalyzer$Analysis", name := "pointsTo", desc := "(I)J" } : Jvm.MethodName)) ∈ lw_all := lw_g (lw_at lw_m9 79 rfl) rfl
theorem q2122 : (Jvm.Cond.selects "PointerAnalyzer$Analysis" ({ cls := "PointerAnalyzer$Analysis", name := "pointsTo", desc := "(I)J" } : Jvm.MethodName) ({ cls := "PointerAnalyzer$Analysis", name := "pointsTo", desc := "(I)J" } : Jvm.MethodName)) ∈ lw_all := lw_g (lw_at lw_m9 80 rfl) rfl
theorem q2123 : (Jvm.Cond.code ({ cls := "PointerAnalyzer$Analysis", name := "pointsTo", desc := "(I)J" } : Jvm.MethodName) prog_2_method_15_code (5 : Nat) (Option.some Jvm.ClassFile.FieldType.long)) ∈ lw_all := lw_g (lw_at lw_m9 81 rfl) rfl
theorem q2124 : (Jvm.Cond.methodLink "PointerAnalyzer$Analysis" (263 : Nat) ({ cls := "PointerAnalyzer$Analysis", name := "codes", desc := "(LPointerAnalyzer$Cell;)J" } : Jvm.MethodName)) ∈ lw_all := lw_g (lw_at lw_m9 82 rfl) rfl
theorem q2125 : (Jvm.Cond.privateMethod ({ cls := "PointerAnalyzer$Analysis", name := "codes", desc := "(LPointerAnalyzer$Cell;)J" } : Jvm.MethodName)) ∈ lw_tbl := lw_at lw_m9 83 rfl
theorem q2126 : (Jvm.Cond.instanceMethod ({ cls := "PointerAnalyzer$Analysis", name := "codes", desc := "(LPointerAnalyzer$Cell;)J" } : Jvm.MethodName)) ∈ lw_all := lw_g (lw_at lw_m9 84 rfl) rfl
theorem q2127 : (Jvm.Cond.code ({ cls := "PointerAnalyzer$Analysis", name := "codes", desc := "(LPointerAnalyzer$Cell;)J" } : Jvm.MethodName) prog_2_method_14_code (6 : Nat) (Option.some Jvm.ClassFile.FieldType.long)) ∈ lw_all := lw_g (lw_at lw_m9 85 rfl) rfl
theorem q2596 : (Jvm.Cond.fieldLinkNest "PointerAnalyzer$Analysis" (147 : Nat) "PointerAnalyzer$Line" "kind" "LPointerAnalyzer$Kind;" "PointerAnalyzer") ∈ lw_tbl := lw_at lw_m11 74 rfl
theorem q2602 : (Jvm.Cond.fieldLinkNest "PointerAnalyzer$Analysis" (135 : Nat) "PointerAnalyzer$Line" "left" "I" "PointerAnalyzer") ∈ lw_tbl := lw_at lw_m11 80 rfl
theorem q2608 : (Jvm.Cond.fieldLinkNest "PointerAnalyzer$Analysis" (144 : Nat) "PointerAnalyzer$Line" "right" "I" "PointerAnalyzer") ∈ lw_tbl := lw_at lw_m11 86 rfl
theorem q2616 : (Jvm.Cond.fieldLinkNest "PointerAnalyzer$Analysis" (179 : Nat) "PointerAnalyzer$Line" "extra" "I" "PointerAnalyzer") ∈ lw_tbl := lw_at lw_m11 94 rfl
theorem q3483 : (Jvm.Cond.castable "PointerAnalyzer$Analysis" "java/lang/Object") ∈ lw_tbl := lw_at lw_m15 1 rfl
theorem in_X8 : ∀ w ∈ wsX80, w ∈ lw_all := lw_in wsX80 [2094, 2096, 2098, 2100, 2102, 2104] (by decide +kernel) (by decide +kernel)

/-! PointerAnalyzer$FewestFirst -/
set_option maxRecDepth 100000
def RX9 : String := "PointerAnalyzer$FewestFirst"
abbrev cX9_compare : ByteArray := prog_7_method_3_code
def yX9_compare : MethodName := ⟨RX9, "compare", "(Ljava/lang/Object;Ljava/lang/Object;)I"⟩
def dkwX9_compare_0 : List UInt8 := [42, 43, 192, 0, 8, 44, 192, 0, 8, 182, 0, 29, 172]
abbrev dktX9_compare_0 : List UInt8 := dkwX9_compare_0 ++ []
theorem dksX9_compare_0 : cX9_compare.data.toList.drop 0 = dktX9_compare_0 := by decide +kernel
theorem dX9_compare_0 : decode cX9_compare 0 = .ok (.aload_n 0, 1) := dk_42 (dk_at dksX9_compare_0 0 rfl rfl)
theorem dX9_compare_1 : decode cX9_compare 1 = .ok (.aload_n 1, 1) := dk_43 (dk_at dksX9_compare_0 1 rfl rfl)
theorem dX9_compare_2 : decode cX9_compare 2 = .ok (.checkcast 8, 3) := dk_192 0 8 (dk_at dksX9_compare_0 2 rfl rfl)
theorem dX9_compare_5 : decode cX9_compare 5 = .ok (.aload_n 2, 1) := dk_44 (dk_at dksX9_compare_0 5 rfl rfl)
theorem dX9_compare_6 : decode cX9_compare 6 = .ok (.checkcast 8, 3) := dk_192 0 8 (dk_at dksX9_compare_0 6 rfl rfl)
theorem dX9_compare_9 : decode cX9_compare 9 = .ok (.invokevirtual 29, 3) := dk_182 0 29 (dk_at dksX9_compare_0 9 rfl rfl)
theorem dX9_compare_12 : decode cX9_compare 12 = .ok (.ireturn, 1) := dk_172 (dk_at dksX9_compare_0 12 rfl rfl)
abbrev cX9_compare_2 : ByteArray := prog_7_method_2_code
def yX9_compare_2 : MethodName := ⟨RX9, "compare", "(LPointerAnalyzer$Cell;LPointerAnalyzer$Cell;)I"⟩
def dkwX9_compare_2_1 : List UInt8 := [167, 0, 14, 43, 180, 0, 25, 44, 180, 0, 25, 184, 0, 19, 172]
abbrev dktX9_compare_2_1 : List UInt8 := dkwX9_compare_2_1 ++ []
def dkwX9_compare_2_0 : List UInt8 := [43, 180, 0, 7, 182, 0, 13, 44, 180, 0, 7, 182, 0, 13, 184, 0, 19, 62, 29, 153, 0, 7, 29]
abbrev dktX9_compare_2_0 : List UInt8 := dkwX9_compare_2_0 ++ dktX9_compare_2_1
theorem dksX9_compare_2_0 : cX9_compare_2.data.toList.drop 0 = dktX9_compare_2_0 := by decide +kernel
theorem dksX9_compare_2_1 : cX9_compare_2.data.toList.drop 23 = dktX9_compare_2_1 := dk_seg dksX9_compare_2_0 23 rfl rfl
theorem dX9_compare_2_0 : decode cX9_compare_2 0 = .ok (.aload_n 1, 1) := dk_43 (dk_at dksX9_compare_2_0 0 rfl rfl)
theorem dX9_compare_2_1 : decode cX9_compare_2 1 = .ok (.getfield 7, 3) := dk_180 0 7 (dk_at dksX9_compare_2_0 1 rfl rfl)
theorem dX9_compare_2_4 : decode cX9_compare_2 4 = .ok (.invokevirtual 13, 3) := dk_182 0 13 (dk_at dksX9_compare_2_0 4 rfl rfl)
theorem dX9_compare_2_7 : decode cX9_compare_2 7 = .ok (.aload_n 2, 1) := dk_44 (dk_at dksX9_compare_2_0 7 rfl rfl)
theorem dX9_compare_2_8 : decode cX9_compare_2 8 = .ok (.getfield 7, 3) := dk_180 0 7 (dk_at dksX9_compare_2_0 8 rfl rfl)
theorem dX9_compare_2_11 : decode cX9_compare_2 11 = .ok (.invokevirtual 13, 3) := dk_182 0 13 (dk_at dksX9_compare_2_0 11 rfl rfl)
theorem dX9_compare_2_14 : decode cX9_compare_2 14 = .ok (.invokestatic 19, 3) := dk_184 0 19 (dk_at dksX9_compare_2_0 14 rfl rfl)
theorem dX9_compare_2_17 : decode cX9_compare_2 17 = .ok (.istore_n 3, 1) := dk_62 (dk_at dksX9_compare_2_0 17 rfl rfl)
theorem dX9_compare_2_18 : decode cX9_compare_2 18 = .ok (.iload_n 3, 1) := dk_29 (dk_at dksX9_compare_2_0 18 rfl rfl)
theorem dX9_compare_2_19 : decode cX9_compare_2 19 = .ok (.ifCond .eq 7, 3) := dk_153 0 7 (dk_at dksX9_compare_2_0 19 rfl rfl)
theorem dX9_compare_2_22 : decode cX9_compare_2 22 = .ok (.iload_n 3, 1) := dk_29 (dk_at dksX9_compare_2_0 22 rfl rfl)
theorem dX9_compare_2_23 : decode cX9_compare_2 23 = .ok (.goto 14, 3) := dk_167 0 14 (dk_at dksX9_compare_2_1 0 rfl rfl)
theorem dX9_compare_2_26 : decode cX9_compare_2 26 = .ok (.aload_n 1, 1) := dk_43 (dk_at dksX9_compare_2_1 3 rfl rfl)
theorem dX9_compare_2_27 : decode cX9_compare_2 27 = .ok (.getfield 25, 3) := dk_180 0 25 (dk_at dksX9_compare_2_1 4 rfl rfl)
theorem dX9_compare_2_30 : decode cX9_compare_2 30 = .ok (.aload_n 2, 1) := dk_44 (dk_at dksX9_compare_2_1 7 rfl rfl)
theorem dX9_compare_2_31 : decode cX9_compare_2 31 = .ok (.getfield 25, 3) := dk_180 0 25 (dk_at dksX9_compare_2_1 8 rfl rfl)
theorem dX9_compare_2_34 : decode cX9_compare_2 34 = .ok (.invokestatic 19, 3) := dk_184 0 19 (dk_at dksX9_compare_2_1 11 rfl rfl)
theorem dX9_compare_2_37 : decode cX9_compare_2 37 = .ok (.ireturn, 1) := dk_172 (dk_at dksX9_compare_2_1 14 rfl rfl)
abbrev cX9_init : ByteArray := prog_7_method_1_code
def yX9_init : MethodName := ⟨RX9, "<init>", "()V"⟩
theorem dX9_init_0 : decode cX9_init 0 = .ok (.aload_n 0, 1) := by decide +kernel
theorem dX9_init_1 : decode cX9_init 1 = .ok (.invokespecial 1, 3) := by decide +kernel
theorem dX9_init_4 : decode cX9_init 4 = .ok (.return_, 1) := by decide +kernel
theorem q172 : (Jvm.Cond.initialized "PointerAnalyzer$FewestFirst") ∈ lw_all := lw_g (lw_at lw_m1 50 rfl) rfl
theorem q344 : (Jvm.Cond.selects "PointerAnalyzer$FewestFirst" ({ cls := "java/lang/Object", name := "getClass", desc := "()Ljava/lang/Class;" } : Jvm.MethodName) ({ cls := "java/lang/Object", name := "getClass", desc := "()Ljava/lang/Class;" } : Jvm.MethodName)) ∈ lw_all := lw_g (lw_at lw_m1 222 rfl) rfl
theorem q612 : (Jvm.Cond.castable "PointerAnalyzer$FewestFirst" "java/util/Comparator") ∈ lw_tbl := lw_at lw_m3 10 rfl
theorem q613 : (Jvm.Cond.selects "PointerAnalyzer$FewestFirst" ({ cls := "java/util/Comparator", name := "compare", desc := "(Ljava/lang/Object;Ljava/lang/Object;)I" } : Jvm.MethodName) ({ cls := "PointerAnalyzer$FewestFirst", name := "compare", desc := "(Ljava/lang/Object;Ljava/lang/Object;)I" } : Jvm.MethodName)) ∈ lw_all := lw_g (lw_at lw_m3 11 rfl) rfl
theorem q614 : (Jvm.Cond.unhidden "PointerAnalyzer$FewestFirst" "compare" "(Ljava/lang/Object;Ljava/lang/Object;)I") ∈ lw_tbl := lw_at lw_m3 12 rfl
theorem q615 : (Jvm.Cond.instanceMethod ({ cls := "PointerAnalyzer$FewestFirst", name := "compare", desc := "(Ljava/lang/Object;Ljava/lang/Object;)I" } : Jvm.MethodName)) ∈ lw_all := lw_g (lw_at lw_m3 13 rfl) rfl
theorem q616 : (Jvm.Cond.publicMethod ({ cls := "PointerAnalyzer$FewestFirst", name := "compare", desc := "(Ljava/lang/Object;Ljava/lang/Object;)I" } : Jvm.MethodName)) ∈ lw_tbl := lw_at lw_m3 14 rfl
theorem q617 : (Jvm.Cond.code ({ cls := "PointerAnalyzer$FewestFirst", name := "compare", desc := "(Ljava/lang/Object;Ljava/lang/Object;)I" } : Jvm.MethodName) prog_7_method_3_code (3 : Nat) (Option.some Jvm.ClassFile.FieldType.int)) ∈ lw_all := lw_g (lw_at lw_m3 15 rfl) rfl
theorem q618 : (Jvm.Cond.classLink "PointerAnalyzer$FewestFirst" (8 : Nat) "PointerAnalyzer$Cell") ∈ lw_all := lw_g (lw_at lw_m3 16 rfl) rfl
theorem q619 : (Jvm.Cond.methodLink "PointerAnalyzer$FewestFirst" (29 : Nat) ({ cls := "PointerAnalyzer$FewestFirst", name := "compare", desc := "(LPointerAnalyzer$Cell;LPointerAnalyzer$Cell;)I" } : Jvm.MethodName)) ∈ lw_all := lw_g (lw_at lw_m3 17 rfl) rfl
theorem q620 : (Jvm.Cond.instanceMethod ({ cls := "PointerAnalyzer$FewestFirst", name := "compare", desc := "(LPointerAnalyzer$Cell;LPointerAnalyzer$Cell;)I" } : Jvm.MethodName)) ∈ lw_all := lw_g (lw_at lw_m3 18 rfl) rfl
theorem q621 : (Jvm.Cond.selects "PointerAnalyzer$FewestFirst" ({ cls := "PointerAnalyzer$FewestFirst", name := "compare", desc := "(LPointerAnalyzer$Cell;LPointerAnalyzer$Cell;)I" } : Jvm.MethodName) ({ cls := "PointerAnalyzer$FewestFirst", name := "compare", desc := "(LPointerAnalyzer$Cell;LPointerAnalyzer$Cell;)I" } : Jvm.MethodName)) ∈ lw_all := lw_g (lw_at lw_m3 19 rfl) rfl
theorem q622 : (Jvm.Cond.code ({ cls := "PointerAnalyzer$FewestFirst", name := "compare", desc := "(LPointerAnalyzer$Cell;LPointerAnalyzer$Cell;)I" } : Jvm.MethodName) prog_7_method_2_code (4 : Nat) (Option.some Jvm.ClassFile.FieldType.int)) ∈ lw_all := lw_g (lw_at lw_m3 20 rfl) rfl
theorem q623 : (Jvm.Cond.methodLink "PointerAnalyzer$FewestFirst" (13 : Nat) ({ cls := "java/util/BitSet", name := "cardinality", desc := "()I" } : Jvm.MethodName)) ∈ lw_all := lw_g (lw_at lw_m3 21 rfl) rfl
theorem q633 : (Jvm.Cond.methodLink "PointerAnalyzer$FewestFirst" (19 : Nat) ({ cls := "java/lang/Integer", name := "compare", desc := "(II)I" } : Jvm.MethodName)) ∈ lw_all := lw_g (lw_at lw_m3 31 rfl) rfl
theorem q765 : (Jvm.Cond.selects "PointerAnalyzer$FewestFirst" ({ cls := "java/lang/Object", name := "equals", desc := "(Ljava/lang/Object;)Z" } : Jvm.MethodName) ({ cls := "java/lang/Object", name := "equals", desc := "(Ljava/lang/Object;)Z" } : Jvm.MethodName)) ∈ lw_all := lw_g (lw_at lw_m3 163 rfl) rfl
theorem q1308 : (Jvm.Cond.instantiable "PointerAnalyzer$FewestFirst" (0 : Nat)) ∈ lw_all := lw_g (lw_at lw_m5 226 rfl) rfl
theorem q1310 : (Jvm.Cond.instanceMethod ({ cls := "PointerAnalyzer$FewestFirst", name := "<init>", desc := "()V" } : Jvm.MethodName)) ∈ lw_all := lw_g (lw_at lw_m5 228 rfl) rfl
theorem q1311 : (Jvm.Cond.code ({ cls := "PointerAnalyzer$FewestFirst", name := "<init>", desc := "()V" } : Jvm.MethodName) prog_7_method_1_code (1 : Nat) (Option.none : Option Jvm.ClassFile.FieldType)) ∈ lw_all := lw_g (lw_at lw_m5 229 rfl) rfl
theorem q1312 : (Jvm.Cond.methodLink "PointerAnalyzer$FewestFirst" (1 : Nat) ({ cls := "java/lang/Object", name := "<init>", desc := "()V" } : Jvm.MethodName)) ∈ lw_all := lw_g (lw_at lw_m5 230 rfl) rfl
theorem q1313 : (Jvm.Cond.superclass "PointerAnalyzer$FewestFirst" "java/lang/Object") ∈ lw_all := lw_g (lw_at lw_m5 231 rfl) rfl
theorem q1598 : (Jvm.Cond.fieldLinkNest "PointerAnalyzer$FewestFirst" (25 : Nat) "PointerAnalyzer$Cell" "number" "I" "PointerAnalyzer") ∈ lw_tbl := lw_at lw_m7 36 rfl
theorem q1606 : (Jvm.Cond.fieldLinkNest "PointerAnalyzer$FewestFirst" (7 : Nat) "PointerAnalyzer$Cell" "targets" "Ljava/util/BitSet;" "PointerAnalyzer") ∈ lw_tbl := lw_at lw_m7 44 rfl
theorem q3485 : (Jvm.Cond.castable "PointerAnalyzer$FewestFirst" "java/lang/Object") ∈ lw_tbl := lw_at lw_m15 3 rfl
