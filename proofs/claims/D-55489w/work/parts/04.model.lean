/-! MatchmakerRulesModel -/
set_option maxRecDepth 100000
def RX4 : String := "MatchmakerRulesModel"
def TX4 : u_T := fun k => match k with
  | 0 => ("MatchmakerRulesModel", "thrown", "I", false)
  | 1 => ("MatchmakerRulesModel", "s", "[I", true)
  | 2 => ("MatchmakerRulesModel", "frame", "[I", true)
  | 3 => ("MatchmakerRulesModel", "saved", "[I", true)
  | 4 => ("MatchmakerRulesModel", "thought", "[I", true)
  | 5 => ("MatchmakerRulesModel", "history", "[I", true)
  | 6 => ("MatchmakerRulesModel", "kept", "I", false)
  | 7 => ("MatchmakerRulesModel", "hasSaved", "Z", false)
  | 8 => ("MatchmakerRulesModel", "text", "[I", true)
  | 9 => ("MatchmakerRulesModel", "told", "[I", true)
  | 10 => ("MatchmakerRulesModel", "out", "[I", true)
  | 11 => ("MatchmakerRulesModel", "bound", "[I", true)
  | 12 => ("MatchmakerRulesModel", "ofRule", "[I", true)
  | 13 => ("MatchmakerRulesModel", "hasFired", "[Z", true)
  | 14 => ("MatchmakerRulesModel", "hasGround", "[Z", true)
  | 15 => ("MatchmakerRulesModel", "dueRule", "[I", true)
  | 16 => ("MatchmakerRulesModel", "dueFirst", "[I", true)
  | 17 => ("MatchmakerRulesModel", "dueSecond", "[I", true)
  | 18 => ("MatchmakerRulesModel", "deep", "[I", true)
  | 19 => ("MatchmakerRulesModel", "rowInts", "[I", true)
  | 20 => ("MatchmakerRulesModel", "rowSize", "[I", true)
  | 21 => ("MatchmakerRulesModel", "rowSort", "[I", true)
  | 22 => ("MatchmakerRulesModel", "rowFloats", "[F", true)
  | 23 => ("MatchmakerRulesModel", "length", "I", false)
  | 24 => ("MatchmakerRulesModel", "outLength", "I", false)
  | 25 => ("MatchmakerRulesModel", "faultAt", "I", false)
  | 26 => ("MatchmakerRulesModel", "itemAt", "I", false)
  | 27 => ("MatchmakerRulesModel", "reason", "I", false)
  | 28 => ("MatchmakerRulesModel", "detail", "I", false)
  | 29 => ("MatchmakerRulesModel", "about", "I", false)
  | 30 => ("MatchmakerRulesModel", "answer", "I", false)
  | 31 => ("MatchmakerRulesModel", "dues", "I", false)
  | 32 => ("MatchmakerRulesModel", "spot", "I", false)
  | 33 => ("MatchmakerRulesModel", "end", "I", false)
  | 34 => ("MatchmakerRulesModel", "items", "I", false)
  | 35 => ("MatchmakerRulesModel", "isWrong", "Z", false)
  | _ => ("MatchmakerRulesModel", "isBound", "[Z", true)
def tyX4 : Nat → FieldType := fun k => match k with
  | 0 => .int
  | 1 => .array .int
  | 2 => .array .int
  | 3 => .array .int
  | 4 => .array .int
  | 5 => .array .int
  | 6 => .int
  | 7 => .boolean
  | 8 => .array .int
  | 9 => .array .int
  | 10 => .array .int
  | 11 => .array .int
  | 12 => .array .int
  | 13 => .array .boolean
  | 14 => .array .boolean
  | 15 => .array .int
  | 16 => .array .int
  | 17 => .array .int
  | 18 => .array .int
  | 19 => .array .int
  | 20 => .array .int
  | 21 => .array .int
  | 22 => .array .float
  | 23 => .int
  | 24 => .int
  | 25 => .int
  | 26 => .int
  | 27 => .int
  | 28 => .int
  | 29 => .int
  | 30 => .int
  | 31 => .int
  | 32 => .int
  | 33 => .int
  | 34 => .int
  | 35 => .boolean
  | _ => .array .boolean
abbrev wsX40 : List Cond := u_ws RX4 TX4 37
set_option maxRecDepth 100000 in
theorem nmX4 : ∀ a, a < 37 → ∀ b, b < 37 → a ≠ b → (TX4 a).2.1 ≠ (TX4 b).2.1 := by decide +kernel
set_option maxRecDepth 100000 in
theorem tyX4_ok : ∀ k, k < 37 → parseFieldDescriptor (TX4 k).2.2.1 = some (tyX4 k) := by decide +kernel
abbrev cX4_init : ByteArray := prog_14_method_1_code
def yX4_init : MethodName := ⟨RX4, "<init>", "()V"⟩
def dkwX4_init_8 : List UInt8 := [188, 4, 181, 0, 81, 177]
abbrev dktX4_init_8 : List UInt8 := dkwX4_init_8 ++ []
def dkwX4_init_7 : List UInt8 := [181, 0, 67, 42, 16, 40, 188, 6, 181, 0, 70, 42, 2, 181, 0, 74, 42, 2, 181, 0, 78, 42, 6]
abbrev dktX4_init_7 : List UInt8 := dkwX4_init_7 ++ dktX4_init_8
def dkwX4_init_6 : List UInt8 := [181, 0, 58, 42, 16, 40, 188, 10, 181, 0, 61, 42, 5, 188, 10, 181, 0, 64, 42, 5, 188, 10]
abbrev dktX4_init_6 : List UInt8 := dkwX4_init_6 ++ dktX4_init_7
def dkwX4_init_5 : List UInt8 := [17, 13, 32, 188, 10, 181, 0, 52, 42, 17, 13, 32, 188, 10, 181, 0, 55, 42, 16, 20, 188, 10]
abbrev dktX4_init_5 : List UInt8 := dkwX4_init_5 ++ dktX4_init_6
def dkwX4_init_4 : List UInt8 := [188, 4, 181, 0, 42, 42, 16, 20, 188, 4, 181, 0, 46, 42, 17, 13, 32, 188, 10, 181, 0, 49, 42]
abbrev dktX4_init_4 : List UInt8 := dkwX4_init_4 ++ dktX4_init_5
def dkwX4_init_3 : List UInt8 := [188, 10, 181, 0, 33, 42, 6, 188, 10, 181, 0, 36, 42, 16, 11, 188, 10, 181, 0, 39, 42, 17, 13, 32]
abbrev dktX4_init_3 : List UInt8 := dkwX4_init_3 ++ dktX4_init_4
def dkwX4_init_2 : List UInt8 := [181, 0, 23, 42, 16, 60, 188, 10, 181, 0, 26, 42, 17, 0, 240, 188, 10, 181, 0, 29, 42, 18, 32]
abbrev dktX4_init_2 : List UInt8 := dkwX4_init_2 ++ dktX4_init_3
def dkwX4_init_1 : List UInt8 := [17, 53, 107, 188, 10, 181, 0, 16, 42, 17, 53, 107, 188, 10, 181, 0, 19, 42, 18, 22, 188, 10]
abbrev dktX4_init_1 : List UInt8 := dkwX4_init_1 ++ dktX4_init_2
def dkwX4_init_0 : List UInt8 := [42, 183, 0, 1, 42, 17, 53, 107, 188, 10, 181, 0, 7, 42, 17, 53, 107, 188, 10, 181, 0, 13, 42]
abbrev dktX4_init_0 : List UInt8 := dkwX4_init_0 ++ dktX4_init_1
theorem dksX4_init_0 : cX4_init.data.toList.drop 0 = dktX4_init_0 := by decide +kernel
theorem dksX4_init_1 : cX4_init.data.toList.drop 23 = dktX4_init_1 := dk_seg dksX4_init_0 23 rfl rfl
theorem dksX4_init_2 : cX4_init.data.toList.drop 45 = dktX4_init_2 := dk_seg dksX4_init_1 22 rfl rfl
theorem dksX4_init_3 : cX4_init.data.toList.drop 68 = dktX4_init_3 := dk_seg dksX4_init_2 23 rfl rfl
theorem dksX4_init_4 : cX4_init.data.toList.drop 92 = dktX4_init_4 := dk_seg dksX4_init_3 24 rfl rfl
theorem dksX4_init_5 : cX4_init.data.toList.drop 115 = dktX4_init_5 := dk_seg dksX4_init_4 23 rfl rfl
theorem dksX4_init_6 : cX4_init.data.toList.drop 137 = dktX4_init_6 := dk_seg dksX4_init_5 22 rfl rfl
theorem dksX4_init_7 : cX4_init.data.toList.drop 159 = dktX4_init_7 := dk_seg dksX4_init_6 22 rfl rfl
theorem dksX4_init_8 : cX4_init.data.toList.drop 182 = dktX4_init_8 := dk_seg dksX4_init_7 23 rfl rfl
theorem dX4_init_0 : decode cX4_init 0 = .ok (.aload_n 0, 1) := dk_42 (dk_at dksX4_init_0 0 rfl rfl)
theorem dX4_init_1 : decode cX4_init 1 = .ok (.invokespecial 1, 3) := dk_183 0 1 (dk_at dksX4_init_0 1 rfl rfl)
theorem dX4_init_4 : decode cX4_init 4 = .ok (.aload_n 0, 1) := dk_42 (dk_at dksX4_init_0 4 rfl rfl)
theorem dX4_init_5 : decode cX4_init 5 = .ok (.sipush 13675, 3) := dk_17 53 107 (dk_at dksX4_init_0 5 rfl rfl)
theorem dX4_init_8 : decode cX4_init 8 = .ok (.newarray .int, 2) := dk_188_10 (dk_at dksX4_init_0 8 rfl rfl)
theorem dX4_init_10 : decode cX4_init 10 = .ok (.putfield 7, 3) := dk_181 0 7 (dk_at dksX4_init_0 10 rfl rfl)
theorem dX4_init_13 : decode cX4_init 13 = .ok (.aload_n 0, 1) := dk_42 (dk_at dksX4_init_0 13 rfl rfl)
theorem dX4_init_14 : decode cX4_init 14 = .ok (.sipush 13675, 3) := dk_17 53 107 (dk_at dksX4_init_0 14 rfl rfl)
theorem dX4_init_17 : decode cX4_init 17 = .ok (.newarray .int, 2) := dk_188_10 (dk_at dksX4_init_0 17 rfl rfl)
theorem dX4_init_19 : decode cX4_init 19 = .ok (.putfield 13, 3) := dk_181 0 13 (dk_at dksX4_init_0 19 rfl rfl)
theorem dX4_init_22 : decode cX4_init 22 = .ok (.aload_n 0, 1) := dk_42 (dk_at dksX4_init_0 22 rfl rfl)
theorem dX4_init_23 : decode cX4_init 23 = .ok (.sipush 13675, 3) := dk_17 53 107 (dk_at dksX4_init_1 0 rfl rfl)
theorem dX4_init_26 : decode cX4_init 26 = .ok (.newarray .int, 2) := dk_188_10 (dk_at dksX4_init_1 3 rfl rfl)
theorem dX4_init_28 : decode cX4_init 28 = .ok (.putfield 16, 3) := dk_181 0 16 (dk_at dksX4_init_1 5 rfl rfl)
theorem dX4_init_31 : decode cX4_init 31 = .ok (.aload_n 0, 1) := dk_42 (dk_at dksX4_init_1 8 rfl rfl)
theorem dX4_init_32 : decode cX4_init 32 = .ok (.sipush 13675, 3) := dk_17 53 107 (dk_at dksX4_init_1 9 rfl rfl)
theorem dX4_init_35 : decode cX4_init 35 = .ok (.newarray .int, 2) := dk_188_10 (dk_at dksX4_init_1 12 rfl rfl)
theorem dX4_init_37 : decode cX4_init 37 = .ok (.putfield 19, 3) := dk_181 0 19 (dk_at dksX4_init_1 14 rfl rfl)
theorem dX4_init_40 : decode cX4_init 40 = .ok (.aload_n 0, 1) := dk_42 (dk_at dksX4_init_1 17 rfl rfl)
theorem dX4_init_41 : decode cX4_init 41 = .ok (.ldc 22, 2) := dk_18 22 (dk_at dksX4_init_1 18 rfl rfl)
theorem dX4_init_43 : decode cX4_init 43 = .ok (.newarray .int, 2) := dk_188_10 (dk_at dksX4_init_1 20 rfl rfl)
theorem dX4_init_45 : decode cX4_init 45 = .ok (.putfield 23, 3) := dk_181 0 23 (dk_at dksX4_init_2 0 rfl rfl)
theorem dX4_init_48 : decode cX4_init 48 = .ok (.aload_n 0, 1) := dk_42 (dk_at dksX4_init_2 3 rfl rfl)
theorem dX4_init_49 : decode cX4_init 49 = .ok (.bipush 60, 2) := dk_16 60 (dk_at dksX4_init_2 4 rfl rfl)
theorem dX4_init_51 : decode cX4_init 51 = .ok (.newarray .int, 2) := dk_188_10 (dk_at dksX4_init_2 6 rfl rfl)
theorem dX4_init_53 : decode cX4_init 53 = .ok (.putfield 26, 3) := dk_181 0 26 (dk_at dksX4_init_2 8 rfl rfl)
theorem dX4_init_56 : decode cX4_init 56 = .ok (.aload_n 0, 1) := dk_42 (dk_at dksX4_init_2 11 rfl rfl)
theorem dX4_init_57 : decode cX4_init 57 = .ok (.sipush 240, 3) := dk_17 0 240 (dk_at dksX4_init_2 12 rfl rfl)
theorem dX4_init_60 : decode cX4_init 60 = .ok (.newarray .int, 2) := dk_188_10 (dk_at dksX4_init_2 15 rfl rfl)
theorem dX4_init_62 : decode cX4_init 62 = .ok (.putfield 29, 3) := dk_181 0 29 (dk_at dksX4_init_2 17 rfl rfl)
theorem dX4_init_65 : decode cX4_init 65 = .ok (.aload_n 0, 1) := dk_42 (dk_at dksX4_init_2 20 rfl rfl)
theorem dX4_init_66 : decode cX4_init 66 = .ok (.ldc 32, 2) := dk_18 32 (dk_at dksX4_init_2 21 rfl rfl)
theorem dX4_init_68 : decode cX4_init 68 = .ok (.newarray .int, 2) := dk_188_10 (dk_at dksX4_init_3 0 rfl rfl)
theorem dX4_init_70 : decode cX4_init 70 = .ok (.putfield 33, 3) := dk_181 0 33 (dk_at dksX4_init_3 2 rfl rfl)
theorem dX4_init_73 : decode cX4_init 73 = .ok (.aload_n 0, 1) := dk_42 (dk_at dksX4_init_3 5 rfl rfl)
theorem dX4_init_74 : decode cX4_init 74 = .ok (.iconst 3, 1) := dk_6 (dk_at dksX4_init_3 6 rfl rfl)
theorem dX4_init_75 : decode cX4_init 75 = .ok (.newarray .int, 2) := dk_188_10 (dk_at dksX4_init_3 7 rfl rfl)
theorem dX4_init_77 : decode cX4_init 77 = .ok (.putfield 36, 3) := dk_181 0 36 (dk_at dksX4_init_3 9 rfl rfl)
theorem dX4_init_80 : decode cX4_init 80 = .ok (.aload_n 0, 1) := dk_42 (dk_at dksX4_init_3 12 rfl rfl)
theorem dX4_init_81 : decode cX4_init 81 = .ok (.bipush 11, 2) := dk_16 11 (dk_at dksX4_init_3 13 rfl rfl)
theorem dX4_init_83 : decode cX4_init 83 = .ok (.newarray .int, 2) := dk_188_10 (dk_at dksX4_init_3 15 rfl rfl)
theorem dX4_init_85 : decode cX4_init 85 = .ok (.putfield 39, 3) := dk_181 0 39 (dk_at dksX4_init_3 17 rfl rfl)
theorem dX4_init_88 : decode cX4_init 88 = .ok (.aload_n 0, 1) := dk_42 (dk_at dksX4_init_3 20 rfl rfl)
theorem dX4_init_89 : decode cX4_init 89 = .ok (.sipush 3360, 3) := dk_17 13 32 (dk_at dksX4_init_3 21 rfl rfl)
theorem dX4_init_92 : decode cX4_init 92 = .ok (.newarray .boolean, 2) := dk_188_4 (dk_at dksX4_init_4 0 rfl rfl)
theorem dX4_init_94 : decode cX4_init 94 = .ok (.putfield 42, 3) := dk_181 0 42 (dk_at dksX4_init_4 2 rfl rfl)
theorem dX4_init_97 : decode cX4_init 97 = .ok (.aload_n 0, 1) := dk_42 (dk_at dksX4_init_4 5 rfl rfl)
theorem dX4_init_98 : decode cX4_init 98 = .ok (.bipush 20, 2) := dk_16 20 (dk_at dksX4_init_4 6 rfl rfl)
theorem dX4_init_100 : decode cX4_init 100 = .ok (.newarray .boolean, 2) := dk_188_4 (dk_at dksX4_init_4 8 rfl rfl)
theorem dX4_init_102 : decode cX4_init 102 = .ok (.putfield 46, 3) := dk_181 0 46 (dk_at dksX4_init_4 10 rfl rfl)
theorem dX4_init_105 : decode cX4_init 105 = .ok (.aload_n 0, 1) := dk_42 (dk_at dksX4_init_4 13 rfl rfl)
theorem dX4_init_106 : decode cX4_init 106 = .ok (.sipush 3360, 3) := dk_17 13 32 (dk_at dksX4_init_4 14 rfl rfl)
theorem dX4_init_109 : decode cX4_init 109 = .ok (.newarray .int, 2) := dk_188_10 (dk_at dksX4_init_4 17 rfl rfl)
theorem dX4_init_111 : decode cX4_init 111 = .ok (.putfield 49, 3) := dk_181 0 49 (dk_at dksX4_init_4 19 rfl rfl)
theorem dX4_init_114 : decode cX4_init 114 = .ok (.aload_n 0, 1) := dk_42 (dk_at dksX4_init_4 22 rfl rfl)
theorem dX4_init_115 : decode cX4_init 115 = .ok (.sipush 3360, 3) := dk_17 13 32 (dk_at dksX4_init_5 0 rfl rfl)
theorem dX4_init_118 : decode cX4_init 118 = .ok (.newarray .int, 2) := dk_188_10 (dk_at dksX4_init_5 3 rfl rfl)
theorem dX4_init_120 : decode cX4_init 120 = .ok (.putfield 52, 3) := dk_181 0 52 (dk_at dksX4_init_5 5 rfl rfl)
theorem dX4_init_123 : decode cX4_init 123 = .ok (.aload_n 0, 1) := dk_42 (dk_at dksX4_init_5 8 rfl rfl)
theorem dX4_init_124 : decode cX4_init 124 = .ok (.sipush 3360, 3) := dk_17 13 32 (dk_at dksX4_init_5 9 rfl rfl)
theorem dX4_init_127 : decode cX4_init 127 = .ok (.newarray .int, 2) := dk_188_10 (dk_at dksX4_init_5 12 rfl rfl)
theorem dX4_init_129 : decode cX4_init 129 = .ok (.putfield 55, 3) := dk_181 0 55 (dk_at dksX4_init_5 14 rfl rfl)
theorem dX4_init_132 : decode cX4_init 132 = .ok (.aload_n 0, 1) := dk_42 (dk_at dksX4_init_5 17 rfl rfl)
theorem dX4_init_133 : decode cX4_init 133 = .ok (.bipush 20, 2) := dk_16 20 (dk_at dksX4_init_5 18 rfl rfl)
theorem dX4_init_135 : decode cX4_init 135 = .ok (.newarray .int, 2) := dk_188_10 (dk_at dksX4_init_5 20 rfl rfl)
theorem dX4_init_137 : decode cX4_init 137 = .ok (.putfield 58, 3) := dk_181 0 58 (dk_at dksX4_init_6 0 rfl rfl)
theorem dX4_init_140 : decode cX4_init 140 = .ok (.aload_n 0, 1) := dk_42 (dk_at dksX4_init_6 3 rfl rfl)
theorem dX4_init_141 : decode cX4_init 141 = .ok (.bipush 40, 2) := dk_16 40 (dk_at dksX4_init_6 4 rfl rfl)
theorem dX4_init_143 : decode cX4_init 143 = .ok (.newarray .int, 2) := dk_188_10 (dk_at dksX4_init_6 6 rfl rfl)
theorem dX4_init_145 : decode cX4_init 145 = .ok (.putfield 61, 3) := dk_181 0 61 (dk_at dksX4_init_6 8 rfl rfl)
theorem dX4_init_148 : decode cX4_init 148 = .ok (.aload_n 0, 1) := dk_42 (dk_at dksX4_init_6 11 rfl rfl)
theorem dX4_init_149 : decode cX4_init 149 = .ok (.iconst 2, 1) := dk_5 (dk_at dksX4_init_6 12 rfl rfl)
theorem dX4_init_150 : decode cX4_init 150 = .ok (.newarray .int, 2) := dk_188_10 (dk_at dksX4_init_6 13 rfl rfl)
theorem dX4_init_152 : decode cX4_init 152 = .ok (.putfield 64, 3) := dk_181 0 64 (dk_at dksX4_init_6 15 rfl rfl)
theorem dX4_init_155 : decode cX4_init 155 = .ok (.aload_n 0, 1) := dk_42 (dk_at dksX4_init_6 18 rfl rfl)
theorem dX4_init_156 : decode cX4_init 156 = .ok (.iconst 2, 1) := dk_5 (dk_at dksX4_init_6 19 rfl rfl)
theorem dX4_init_157 : decode cX4_init 157 = .ok (.newarray .int, 2) := dk_188_10 (dk_at dksX4_init_6 20 rfl rfl)
theorem dX4_init_159 : decode cX4_init 159 = .ok (.putfield 67, 3) := dk_181 0 67 (dk_at dksX4_init_7 0 rfl rfl)
theorem dX4_init_162 : decode cX4_init 162 = .ok (.aload_n 0, 1) := dk_42 (dk_at dksX4_init_7 3 rfl rfl)
theorem dX4_init_163 : decode cX4_init 163 = .ok (.bipush 40, 2) := dk_16 40 (dk_at dksX4_init_7 4 rfl rfl)
theorem dX4_init_165 : decode cX4_init 165 = .ok (.newarray .float, 2) := dk_188_6 (dk_at dksX4_init_7 6 rfl rfl)
theorem dX4_init_167 : decode cX4_init 167 = .ok (.putfield 70, 3) := dk_181 0 70 (dk_at dksX4_init_7 8 rfl rfl)
theorem dX4_init_170 : decode cX4_init 170 = .ok (.aload_n 0, 1) := dk_42 (dk_at dksX4_init_7 11 rfl rfl)
theorem dX4_init_171 : decode cX4_init 171 = .ok (.iconst (-1), 1) := dk_2 (dk_at dksX4_init_7 12 rfl rfl)
theorem dX4_init_172 : decode cX4_init 172 = .ok (.putfield 74, 3) := dk_181 0 74 (dk_at dksX4_init_7 13 rfl rfl)
theorem dX4_init_175 : decode cX4_init 175 = .ok (.aload_n 0, 1) := dk_42 (dk_at dksX4_init_7 16 rfl rfl)
theorem dX4_init_176 : decode cX4_init 176 = .ok (.iconst (-1), 1) := dk_2 (dk_at dksX4_init_7 17 rfl rfl)
theorem dX4_init_177 : decode cX4_init 177 = .ok (.putfield 78, 3) := dk_181 0 78 (dk_at dksX4_init_7 18 rfl rfl)
theorem dX4_init_180 : decode cX4_init 180 = .ok (.aload_n 0, 1) := dk_42 (dk_at dksX4_init_7 21 rfl rfl)
theorem dX4_init_181 : decode cX4_init 181 = .ok (.iconst 3, 1) := dk_6 (dk_at dksX4_init_7 22 rfl rfl)
theorem dX4_init_182 : decode cX4_init 182 = .ok (.newarray .boolean, 2) := dk_188_4 (dk_at dksX4_init_8 0 rfl rfl)
theorem dX4_init_184 : decode cX4_init 184 = .ok (.putfield 81, 3) := dk_181 0 81 (dk_at dksX4_init_8 2 rfl rfl)
theorem dX4_init_187 : decode cX4_init 187 = .ok (.return_, 1) := dk_177 (dk_at dksX4_init_8 5 rfl rfl)
abbrev cX4_thrown : ByteArray := prog_14_method_2_code
def yX4_thrown : MethodName := ⟨RX4, "thrown", "()I"⟩
theorem dX4_thrown_0 : decode cX4_thrown 0 = .ok (.aload_n 0, 1) := by decide +kernel
theorem dX4_thrown_1 : decode cX4_thrown 1 = .ok (.getfield 84, 3) := by decide +kernel
theorem dX4_thrown_4 : decode cX4_thrown 4 = .ok (.ireturn, 1) := by decide +kernel
abbrev cX4_clear : ByteArray := prog_14_method_43_code
def yX4_clear : MethodName := ⟨RX4, "clear", "()I"⟩
def dkwX4_clear_1 : List UInt8 := [180, 0, 7, 28, 3, 79, 132, 2, 1, 167, 255, 239, 42, 3, 181, 0, 87, 27, 172]
abbrev dktX4_clear_1 : List UInt8 := dkwX4_clear_1 ++ []
def dkwX4_clear_0 : List UInt8 := [42, 3, 181, 0, 84, 42, 180, 0, 7, 4, 46, 60, 3, 61, 28, 17, 53, 107, 162, 0, 16, 42]
abbrev dktX4_clear_0 : List UInt8 := dkwX4_clear_0 ++ dktX4_clear_1
theorem dksX4_clear_0 : cX4_clear.data.toList.drop 0 = dktX4_clear_0 := by decide +kernel
theorem dksX4_clear_1 : cX4_clear.data.toList.drop 22 = dktX4_clear_1 := dk_seg dksX4_clear_0 22 rfl rfl
theorem dX4_clear_0 : decode cX4_clear 0 = .ok (.aload_n 0, 1) := dk_42 (dk_at dksX4_clear_0 0 rfl rfl)
theorem dX4_clear_1 : decode cX4_clear 1 = .ok (.iconst 0, 1) := dk_3 (dk_at dksX4_clear_0 1 rfl rfl)
theorem dX4_clear_2 : decode cX4_clear 2 = .ok (.putfield 84, 3) := dk_181 0 84 (dk_at dksX4_clear_0 2 rfl rfl)
theorem dX4_clear_5 : decode cX4_clear 5 = .ok (.aload_n 0, 1) := dk_42 (dk_at dksX4_clear_0 5 rfl rfl)
theorem dX4_clear_6 : decode cX4_clear 6 = .ok (.getfield 7, 3) := dk_180 0 7 (dk_at dksX4_clear_0 6 rfl rfl)
theorem dX4_clear_9 : decode cX4_clear 9 = .ok (.iconst 1, 1) := dk_4 (dk_at dksX4_clear_0 9 rfl rfl)
theorem dX4_clear_10 : decode cX4_clear 10 = .ok (.iaload, 1) := dk_46 (dk_at dksX4_clear_0 10 rfl rfl)
theorem dX4_clear_11 : decode cX4_clear 11 = .ok (.istore_n 1, 1) := dk_60 (dk_at dksX4_clear_0 11 rfl rfl)
theorem dX4_clear_12 : decode cX4_clear 12 = .ok (.iconst 0, 1) := dk_3 (dk_at dksX4_clear_0 12 rfl rfl)
theorem dX4_clear_13 : decode cX4_clear 13 = .ok (.istore_n 2, 1) := dk_61 (dk_at dksX4_clear_0 13 rfl rfl)
theorem dX4_clear_14 : decode cX4_clear 14 = .ok (.iload_n 2, 1) := dk_28 (dk_at dksX4_clear_0 14 rfl rfl)
theorem dX4_clear_15 : decode cX4_clear 15 = .ok (.sipush 13675, 3) := dk_17 53 107 (dk_at dksX4_clear_0 15 rfl rfl)
theorem dX4_clear_18 : decode cX4_clear 18 = .ok (.if_icmp .ge 16, 3) := dk_162 0 16 (dk_at dksX4_clear_0 18 rfl rfl)
theorem dX4_clear_21 : decode cX4_clear 21 = .ok (.aload_n 0, 1) := dk_42 (dk_at dksX4_clear_0 21 rfl rfl)
theorem dX4_clear_22 : decode cX4_clear 22 = .ok (.getfield 7, 3) := dk_180 0 7 (dk_at dksX4_clear_1 0 rfl rfl)
theorem dX4_clear_25 : decode cX4_clear 25 = .ok (.iload_n 2, 1) := dk_28 (dk_at dksX4_clear_1 3 rfl rfl)
theorem dX4_clear_26 : decode cX4_clear 26 = .ok (.iconst 0, 1) := dk_3 (dk_at dksX4_clear_1 4 rfl rfl)
theorem dX4_clear_27 : decode cX4_clear 27 = .ok (.iastore, 1) := dk_79 (dk_at dksX4_clear_1 5 rfl rfl)
theorem dX4_clear_28 : decode cX4_clear 28 = .ok (.iinc 2 1, 3) := dk_132 2 1 (dk_at dksX4_clear_1 6 rfl rfl)
theorem dX4_clear_31 : decode cX4_clear 31 = .ok (.goto (-17), 3) := dk_167 255 239 (dk_at dksX4_clear_1 9 rfl rfl)
theorem dX4_clear_34 : decode cX4_clear 34 = .ok (.aload_n 0, 1) := dk_42 (dk_at dksX4_clear_1 12 rfl rfl)
theorem dX4_clear_35 : decode cX4_clear 35 = .ok (.iconst 0, 1) := dk_3 (dk_at dksX4_clear_1 13 rfl rfl)
theorem dX4_clear_36 : decode cX4_clear 36 = .ok (.putfield 87, 3) := dk_181 0 87 (dk_at dksX4_clear_1 14 rfl rfl)
theorem dX4_clear_39 : decode cX4_clear 39 = .ok (.iload_n 1, 1) := dk_27 (dk_at dksX4_clear_1 17 rfl rfl)
theorem dX4_clear_40 : decode cX4_clear 40 = .ok (.ireturn, 1) := dk_172 (dk_at dksX4_clear_1 18 rfl rfl)
abbrev cX4_rule : ByteArray := prog_14_method_44_code
def yX4_rule : MethodName := ⟨RX4, "rule", "()I"⟩
def dkwX4_rule_3 : List UInt8 := [182, 0, 244, 172]
abbrev dktX4_rule_3 : List UInt8 := dkwX4_rule_3 ++ []
def dkwX4_rule_2 : List UInt8 := [162, 0, 17, 42, 42, 180, 0, 225, 181, 0, 74, 42, 4, 182, 0, 101, 172, 42, 42, 182, 0, 241, 5]
abbrev dktX4_rule_2 : List UInt8 := dkwX4_rule_2 ++ dktX4_rule_3
def dkwX4_rule_1 : List UInt8 := [181, 0, 234, 42, 182, 0, 238, 42, 180, 0, 234, 154, 0, 14, 42, 180, 0, 225, 42, 180, 0, 231]
abbrev dktX4_rule_1 : List UInt8 := dkwX4_rule_1 ++ dktX4_rule_2
def dkwX4_rule_0 : List UInt8 := [42, 182, 0, 222, 42, 3, 181, 0, 225, 42, 42, 180, 0, 228, 181, 0, 231, 42, 3, 181, 0, 228, 42, 3]
abbrev dktX4_rule_0 : List UInt8 := dkwX4_rule_0 ++ dktX4_rule_1
theorem dksX4_rule_0 : cX4_rule.data.toList.drop 0 = dktX4_rule_0 := by decide +kernel
theorem dksX4_rule_1 : cX4_rule.data.toList.drop 24 = dktX4_rule_1 := dk_seg dksX4_rule_0 24 rfl rfl
theorem dksX4_rule_2 : cX4_rule.data.toList.drop 46 = dktX4_rule_2 := dk_seg dksX4_rule_1 22 rfl rfl
theorem dksX4_rule_3 : cX4_rule.data.toList.drop 69 = dktX4_rule_3 := dk_seg dksX4_rule_2 23 rfl rfl
theorem dX4_rule_0 : decode cX4_rule 0 = .ok (.aload_n 0, 1) := dk_42 (dk_at dksX4_rule_0 0 rfl rfl)
theorem dX4_rule_1 : decode cX4_rule 1 = .ok (.invokevirtual 222, 3) := dk_182 0 222 (dk_at dksX4_rule_0 1 rfl rfl)
theorem dX4_rule_4 : decode cX4_rule 4 = .ok (.aload_n 0, 1) := dk_42 (dk_at dksX4_rule_0 4 rfl rfl)
theorem dX4_rule_5 : decode cX4_rule 5 = .ok (.iconst 0, 1) := dk_3 (dk_at dksX4_rule_0 5 rfl rfl)
theorem dX4_rule_6 : decode cX4_rule 6 = .ok (.putfield 225, 3) := dk_181 0 225 (dk_at dksX4_rule_0 6 rfl rfl)
theorem dX4_rule_9 : decode cX4_rule 9 = .ok (.aload_n 0, 1) := dk_42 (dk_at dksX4_rule_0 9 rfl rfl)
theorem dX4_rule_10 : decode cX4_rule 10 = .ok (.aload_n 0, 1) := dk_42 (dk_at dksX4_rule_0 10 rfl rfl)
theorem dX4_rule_11 : decode cX4_rule 11 = .ok (.getfield 228, 3) := dk_180 0 228 (dk_at dksX4_rule_0 11 rfl rfl)
theorem dX4_rule_14 : decode cX4_rule 14 = .ok (.putfield 231, 3) := dk_181 0 231 (dk_at dksX4_rule_0 14 rfl rfl)
theorem dX4_rule_17 : decode cX4_rule 17 = .ok (.aload_n 0, 1) := dk_42 (dk_at dksX4_rule_0 17 rfl rfl)
theorem dX4_rule_18 : decode cX4_rule 18 = .ok (.iconst 0, 1) := dk_3 (dk_at dksX4_rule_0 18 rfl rfl)
theorem dX4_rule_19 : decode cX4_rule 19 = .ok (.putfield 228, 3) := dk_181 0 228 (dk_at dksX4_rule_0 19 rfl rfl)
theorem dX4_rule_22 : decode cX4_rule 22 = .ok (.aload_n 0, 1) := dk_42 (dk_at dksX4_rule_0 22 rfl rfl)
theorem dX4_rule_23 : decode cX4_rule 23 = .ok (.iconst 0, 1) := dk_3 (dk_at dksX4_rule_0 23 rfl rfl)
theorem dX4_rule_24 : decode cX4_rule 24 = .ok (.putfield 234, 3) := dk_181 0 234 (dk_at dksX4_rule_1 0 rfl rfl)
theorem dX4_rule_27 : decode cX4_rule 27 = .ok (.aload_n 0, 1) := dk_42 (dk_at dksX4_rule_1 3 rfl rfl)
theorem dX4_rule_28 : decode cX4_rule 28 = .ok (.invokevirtual 238, 3) := dk_182 0 238 (dk_at dksX4_rule_1 4 rfl rfl)
theorem dX4_rule_31 : decode cX4_rule 31 = .ok (.aload_n 0, 1) := dk_42 (dk_at dksX4_rule_1 7 rfl rfl)
theorem dX4_rule_32 : decode cX4_rule 32 = .ok (.getfield 234, 3) := dk_180 0 234 (dk_at dksX4_rule_1 8 rfl rfl)
theorem dX4_rule_35 : decode cX4_rule 35 = .ok (.ifCond .ne 14, 3) := dk_154 0 14 (dk_at dksX4_rule_1 11 rfl rfl)
theorem dX4_rule_38 : decode cX4_rule 38 = .ok (.aload_n 0, 1) := dk_42 (dk_at dksX4_rule_1 14 rfl rfl)
theorem dX4_rule_39 : decode cX4_rule 39 = .ok (.getfield 225, 3) := dk_180 0 225 (dk_at dksX4_rule_1 15 rfl rfl)
theorem dX4_rule_42 : decode cX4_rule 42 = .ok (.aload_n 0, 1) := dk_42 (dk_at dksX4_rule_1 18 rfl rfl)
theorem dX4_rule_43 : decode cX4_rule 43 = .ok (.getfield 231, 3) := dk_180 0 231 (dk_at dksX4_rule_1 19 rfl rfl)
theorem dX4_rule_46 : decode cX4_rule 46 = .ok (.if_icmp .ge 17, 3) := dk_162 0 17 (dk_at dksX4_rule_2 0 rfl rfl)
theorem dX4_rule_49 : decode cX4_rule 49 = .ok (.aload_n 0, 1) := dk_42 (dk_at dksX4_rule_2 3 rfl rfl)
theorem dX4_rule_50 : decode cX4_rule 50 = .ok (.aload_n 0, 1) := dk_42 (dk_at dksX4_rule_2 4 rfl rfl)
theorem dX4_rule_51 : decode cX4_rule 51 = .ok (.getfield 225, 3) := dk_180 0 225 (dk_at dksX4_rule_2 5 rfl rfl)
theorem dX4_rule_54 : decode cX4_rule 54 = .ok (.putfield 74, 3) := dk_181 0 74 (dk_at dksX4_rule_2 8 rfl rfl)
theorem dX4_rule_57 : decode cX4_rule 57 = .ok (.aload_n 0, 1) := dk_42 (dk_at dksX4_rule_2 11 rfl rfl)
theorem dX4_rule_58 : decode cX4_rule 58 = .ok (.iconst 1, 1) := dk_4 (dk_at dksX4_rule_2 12 rfl rfl)
theorem dX4_rule_59 : decode cX4_rule 59 = .ok (.invokevirtual 101, 3) := dk_182 0 101 (dk_at dksX4_rule_2 13 rfl rfl)
theorem dX4_rule_62 : decode cX4_rule 62 = .ok (.ireturn, 1) := dk_172 (dk_at dksX4_rule_2 16 rfl rfl)
theorem dX4_rule_63 : decode cX4_rule 63 = .ok (.aload_n 0, 1) := dk_42 (dk_at dksX4_rule_2 17 rfl rfl)
theorem dX4_rule_64 : decode cX4_rule 64 = .ok (.aload_n 0, 1) := dk_42 (dk_at dksX4_rule_2 18 rfl rfl)
theorem dX4_rule_65 : decode cX4_rule 65 = .ok (.invokevirtual 241, 3) := dk_182 0 241 (dk_at dksX4_rule_2 19 rfl rfl)
theorem dX4_rule_68 : decode cX4_rule 68 = .ok (.iconst 2, 1) := dk_5 (dk_at dksX4_rule_2 22 rfl rfl)
theorem dX4_rule_69 : decode cX4_rule 69 = .ok (.invokevirtual 244, 3) := dk_182 0 244 (dk_at dksX4_rule_3 0 rfl rfl)
theorem dX4_rule_72 : decode cX4_rule 72 = .ok (.ireturn, 1) := dk_172 (dk_at dksX4_rule_3 3 rfl rfl)
abbrev cX4_remembers : ByteArray := prog_14_method_5_code
def yX4_remembers : MethodName := ⟨RX4, "remembers", "()V"⟩
def dkwX4_remembers_1 : List UInt8 := [46, 79, 132, 1, 1, 167, 255, 234, 177]
abbrev dktX4_remembers_1 : List UInt8 := dkwX4_remembers_1 ++ []
def dkwX4_remembers_0 : List UInt8 := [42, 3, 181, 0, 84, 3, 60, 27, 17, 53, 107, 162, 0, 21, 42, 180, 0, 13, 27, 42, 180, 0, 7, 27]
abbrev dktX4_remembers_0 : List UInt8 := dkwX4_remembers_0 ++ dktX4_remembers_1
theorem dksX4_remembers_0 : cX4_remembers.data.toList.drop 0 = dktX4_remembers_0 := by decide +kernel
theorem dksX4_remembers_1 : cX4_remembers.data.toList.drop 24 = dktX4_remembers_1 := dk_seg dksX4_remembers_0 24 rfl rfl
theorem dX4_remembers_0 : decode cX4_remembers 0 = .ok (.aload_n 0, 1) := dk_42 (dk_at dksX4_remembers_0 0 rfl rfl)
theorem dX4_remembers_1 : decode cX4_remembers 1 = .ok (.iconst 0, 1) := dk_3 (dk_at dksX4_remembers_0 1 rfl rfl)
theorem dX4_remembers_2 : decode cX4_remembers 2 = .ok (.putfield 84, 3) := dk_181 0 84 (dk_at dksX4_remembers_0 2 rfl rfl)
theorem dX4_remembers_5 : decode cX4_remembers 5 = .ok (.iconst 0, 1) := dk_3 (dk_at dksX4_remembers_0 5 rfl rfl)
theorem dX4_remembers_6 : decode cX4_remembers 6 = .ok (.istore_n 1, 1) := dk_60 (dk_at dksX4_remembers_0 6 rfl rfl)
theorem dX4_remembers_7 : decode cX4_remembers 7 = .ok (.iload_n 1, 1) := dk_27 (dk_at dksX4_remembers_0 7 rfl rfl)
theorem dX4_remembers_8 : decode cX4_remembers 8 = .ok (.sipush 13675, 3) := dk_17 53 107 (dk_at dksX4_remembers_0 8 rfl rfl)
theorem dX4_remembers_11 : decode cX4_remembers 11 = .ok (.if_icmp .ge 21, 3) := dk_162 0 21 (dk_at dksX4_remembers_0 11 rfl rfl)
theorem dX4_remembers_14 : decode cX4_remembers 14 = .ok (.aload_n 0, 1) := dk_42 (dk_at dksX4_remembers_0 14 rfl rfl)
theorem dX4_remembers_15 : decode cX4_remembers 15 = .ok (.getfield 13, 3) := dk_180 0 13 (dk_at dksX4_remembers_0 15 rfl rfl)
theorem dX4_remembers_18 : decode cX4_remembers 18 = .ok (.iload_n 1, 1) := dk_27 (dk_at dksX4_remembers_0 18 rfl rfl)
theorem dX4_remembers_19 : decode cX4_remembers 19 = .ok (.aload_n 0, 1) := dk_42 (dk_at dksX4_remembers_0 19 rfl rfl)
theorem dX4_remembers_20 : decode cX4_remembers 20 = .ok (.getfield 7, 3) := dk_180 0 7 (dk_at dksX4_remembers_0 20 rfl rfl)
theorem dX4_remembers_23 : decode cX4_remembers 23 = .ok (.iload_n 1, 1) := dk_27 (dk_at dksX4_remembers_0 23 rfl rfl)
theorem dX4_remembers_24 : decode cX4_remembers 24 = .ok (.iaload, 1) := dk_46 (dk_at dksX4_remembers_1 0 rfl rfl)
theorem dX4_remembers_25 : decode cX4_remembers 25 = .ok (.iastore, 1) := dk_79 (dk_at dksX4_remembers_1 1 rfl rfl)
theorem dX4_remembers_26 : decode cX4_remembers 26 = .ok (.iinc 1 1, 3) := dk_132 1 1 (dk_at dksX4_remembers_1 2 rfl rfl)
theorem dX4_remembers_29 : decode cX4_remembers 29 = .ok (.goto (-22), 3) := dk_167 255 234 (dk_at dksX4_remembers_1 5 rfl rfl)
theorem dX4_remembers_32 : decode cX4_remembers 32 = .ok (.return_, 1) := dk_177 (dk_at dksX4_remembers_1 8 rfl rfl)
abbrev cX4_readsRule : ByteArray := prog_14_method_93_code
def yX4_readsRule : MethodName := ⟨RX4, "readsRule", "()V"⟩
def dkwX4_readsRule_6 : List UInt8 := [180, 0, 39, 16, 10, 42, 4, 182, 1, 71, 79, 177]
abbrev dktX4_readsRule_6 : List UInt8 := dkwX4_readsRule_6 ++ []
def dkwX4_readsRule_5 : List UInt8 := [182, 1, 64, 42, 16, 62, 182, 1, 68, 42, 16, 7, 3, 182, 1, 64, 42, 16, 42, 182, 1, 68, 42]
abbrev dktX4_readsRule_5 : List UInt8 := dkwX4_readsRule_5 ++ dktX4_readsRule_6
def dkwX4_readsRule_4 : List UInt8 := [154, 0, 25, 42, 182, 1, 51, 16, 62, 159, 0, 16, 42, 180, 0, 39, 6, 4, 79, 42, 7, 4]
abbrev dktX4_readsRule_4 : List UInt8 := dkwX4_readsRule_4 ++ dktX4_readsRule_5
def dkwX4_readsRule_3 : List UInt8 := [181, 0, 225, 42, 180, 0, 39, 6, 5, 79, 42, 7, 3, 182, 1, 64, 167, 0, 32, 42, 180, 0, 234]
abbrev dktX4_readsRule_3 : List UInt8 := dkwX4_readsRule_3 ++ dktX4_readsRule_4
def dkwX4_readsRule_2 : List UInt8 := [42, 180, 0, 234, 154, 0, 38, 42, 182, 1, 51, 16, 33, 160, 0, 29, 42, 89, 180, 0, 225, 4, 96]
abbrev dktX4_readsRule_2 : List UInt8 := dkwX4_readsRule_2 ++ dktX4_readsRule_3
def dkwX4_readsRule_1 : List UInt8 := [16, 11, 162, 0, 16, 42, 180, 0, 39, 27, 3, 79, 132, 1, 1, 167, 255, 240, 42, 3, 4, 182, 1, 64]
abbrev dktX4_readsRule_1 : List UInt8 := dkwX4_readsRule_1 ++ dktX4_readsRule_2
def dkwX4_readsRule_0 : List UInt8 := [3, 60, 27, 6, 162, 0, 16, 42, 180, 0, 81, 27, 3, 84, 132, 1, 1, 167, 255, 241, 3, 60, 27]
abbrev dktX4_readsRule_0 : List UInt8 := dkwX4_readsRule_0 ++ dktX4_readsRule_1
theorem dksX4_readsRule_0 : cX4_readsRule.data.toList.drop 0 = dktX4_readsRule_0 := by decide +kernel
theorem dksX4_readsRule_1 : cX4_readsRule.data.toList.drop 23 = dktX4_readsRule_1 := dk_seg dksX4_readsRule_0 23 rfl rfl
theorem dksX4_readsRule_2 : cX4_readsRule.data.toList.drop 47 = dktX4_readsRule_2 := dk_seg dksX4_readsRule_1 24 rfl rfl
theorem dksX4_readsRule_3 : cX4_readsRule.data.toList.drop 70 = dktX4_readsRule_3 := dk_seg dksX4_readsRule_2 23 rfl rfl
theorem dksX4_readsRule_4 : cX4_readsRule.data.toList.drop 93 = dktX4_readsRule_4 := dk_seg dksX4_readsRule_3 23 rfl rfl
theorem dksX4_readsRule_5 : cX4_readsRule.data.toList.drop 115 = dktX4_readsRule_5 := dk_seg dksX4_readsRule_4 22 rfl rfl
theorem dksX4_readsRule_6 : cX4_readsRule.data.toList.drop 138 = dktX4_readsRule_6 := dk_seg dksX4_readsRule_5 23 rfl rfl
theorem dX4_readsRule_0 : decode cX4_readsRule 0 = .ok (.iconst 0, 1) := dk_3 (dk_at dksX4_readsRule_0 0 rfl rfl)
theorem dX4_readsRule_1 : decode cX4_readsRule 1 = .ok (.istore_n 1, 1) := dk_60 (dk_at dksX4_readsRule_0 1 rfl rfl)
theorem dX4_readsRule_2 : decode cX4_readsRule 2 = .ok (.iload_n 1, 1) := dk_27 (dk_at dksX4_readsRule_0 2 rfl rfl)
theorem dX4_readsRule_3 : decode cX4_readsRule 3 = .ok (.iconst 3, 1) := dk_6 (dk_at dksX4_readsRule_0 3 rfl rfl)
theorem dX4_readsRule_4 : decode cX4_readsRule 4 = .ok (.if_icmp .ge 16, 3) := dk_162 0 16 (dk_at dksX4_readsRule_0 4 rfl rfl)
theorem dX4_readsRule_7 : decode cX4_readsRule 7 = .ok (.aload_n 0, 1) := dk_42 (dk_at dksX4_readsRule_0 7 rfl rfl)
theorem dX4_readsRule_8 : decode cX4_readsRule 8 = .ok (.getfield 81, 3) := dk_180 0 81 (dk_at dksX4_readsRule_0 8 rfl rfl)
theorem dX4_readsRule_11 : decode cX4_readsRule 11 = .ok (.iload_n 1, 1) := dk_27 (dk_at dksX4_readsRule_0 11 rfl rfl)
theorem dX4_readsRule_12 : decode cX4_readsRule 12 = .ok (.iconst 0, 1) := dk_3 (dk_at dksX4_readsRule_0 12 rfl rfl)
theorem dX4_readsRule_13 : decode cX4_readsRule 13 = .ok (.bastore, 1) := dk_84 (dk_at dksX4_readsRule_0 13 rfl rfl)
theorem dX4_readsRule_14 : decode cX4_readsRule 14 = .ok (.iinc 1 1, 3) := dk_132 1 1 (dk_at dksX4_readsRule_0 14 rfl rfl)
theorem dX4_readsRule_17 : decode cX4_readsRule 17 = .ok (.goto (-15), 3) := dk_167 255 241 (dk_at dksX4_readsRule_0 17 rfl rfl)
theorem dX4_readsRule_20 : decode cX4_readsRule 20 = .ok (.iconst 0, 1) := dk_3 (dk_at dksX4_readsRule_0 20 rfl rfl)
theorem dX4_readsRule_21 : decode cX4_readsRule 21 = .ok (.istore_n 1, 1) := dk_60 (dk_at dksX4_readsRule_0 21 rfl rfl)
theorem dX4_readsRule_22 : decode cX4_readsRule 22 = .ok (.iload_n 1, 1) := dk_27 (dk_at dksX4_readsRule_0 22 rfl rfl)
theorem dX4_readsRule_23 : decode cX4_readsRule 23 = .ok (.bipush 11, 2) := dk_16 11 (dk_at dksX4_readsRule_1 0 rfl rfl)
theorem dX4_readsRule_25 : decode cX4_readsRule 25 = .ok (.if_icmp .ge 16, 3) := dk_162 0 16 (dk_at dksX4_readsRule_1 2 rfl rfl)
theorem dX4_readsRule_28 : decode cX4_readsRule 28 = .ok (.aload_n 0, 1) := dk_42 (dk_at dksX4_readsRule_1 5 rfl rfl)
theorem dX4_readsRule_29 : decode cX4_readsRule 29 = .ok (.getfield 39, 3) := dk_180 0 39 (dk_at dksX4_readsRule_1 6 rfl rfl)
theorem dX4_readsRule_32 : decode cX4_readsRule 32 = .ok (.iload_n 1, 1) := dk_27 (dk_at dksX4_readsRule_1 9 rfl rfl)
theorem dX4_readsRule_33 : decode cX4_readsRule 33 = .ok (.iconst 0, 1) := dk_3 (dk_at dksX4_readsRule_1 10 rfl rfl)
theorem dX4_readsRule_34 : decode cX4_readsRule 34 = .ok (.iastore, 1) := dk_79 (dk_at dksX4_readsRule_1 11 rfl rfl)
theorem dX4_readsRule_35 : decode cX4_readsRule 35 = .ok (.iinc 1 1, 3) := dk_132 1 1 (dk_at dksX4_readsRule_1 12 rfl rfl)
theorem dX4_readsRule_38 : decode cX4_readsRule 38 = .ok (.goto (-16), 3) := dk_167 255 240 (dk_at dksX4_readsRule_1 15 rfl rfl)
theorem dX4_readsRule_41 : decode cX4_readsRule 41 = .ok (.aload_n 0, 1) := dk_42 (dk_at dksX4_readsRule_1 18 rfl rfl)
theorem dX4_readsRule_42 : decode cX4_readsRule 42 = .ok (.iconst 0, 1) := dk_3 (dk_at dksX4_readsRule_1 19 rfl rfl)
theorem dX4_readsRule_43 : decode cX4_readsRule 43 = .ok (.iconst 1, 1) := dk_4 (dk_at dksX4_readsRule_1 20 rfl rfl)
theorem dX4_readsRule_44 : decode cX4_readsRule 44 = .ok (.invokevirtual 320, 3) := dk_182 1 64 (dk_at dksX4_readsRule_1 21 rfl rfl)
theorem dX4_readsRule_47 : decode cX4_readsRule 47 = .ok (.aload_n 0, 1) := dk_42 (dk_at dksX4_readsRule_2 0 rfl rfl)
theorem dX4_readsRule_48 : decode cX4_readsRule 48 = .ok (.getfield 234, 3) := dk_180 0 234 (dk_at dksX4_readsRule_2 1 rfl rfl)
theorem dX4_readsRule_51 : decode cX4_readsRule 51 = .ok (.ifCond .ne 38, 3) := dk_154 0 38 (dk_at dksX4_readsRule_2 4 rfl rfl)
theorem dX4_readsRule_54 : decode cX4_readsRule 54 = .ok (.aload_n 0, 1) := dk_42 (dk_at dksX4_readsRule_2 7 rfl rfl)
theorem dX4_readsRule_55 : decode cX4_readsRule 55 = .ok (.invokevirtual 307, 3) := dk_182 1 51 (dk_at dksX4_readsRule_2 8 rfl rfl)
theorem dX4_readsRule_58 : decode cX4_readsRule 58 = .ok (.bipush 33, 2) := dk_16 33 (dk_at dksX4_readsRule_2 11 rfl rfl)
theorem dX4_readsRule_60 : decode cX4_readsRule 60 = .ok (.if_icmp .ne 29, 3) := dk_160 0 29 (dk_at dksX4_readsRule_2 13 rfl rfl)
theorem dX4_readsRule_63 : decode cX4_readsRule 63 = .ok (.aload_n 0, 1) := dk_42 (dk_at dksX4_readsRule_2 16 rfl rfl)
theorem dX4_readsRule_64 : decode cX4_readsRule 64 = .ok (.dup, 1) := dk_89 (dk_at dksX4_readsRule_2 17 rfl rfl)
theorem dX4_readsRule_65 : decode cX4_readsRule 65 = .ok (.getfield 225, 3) := dk_180 0 225 (dk_at dksX4_readsRule_2 18 rfl rfl)
theorem dX4_readsRule_68 : decode cX4_readsRule 68 = .ok (.iconst 1, 1) := dk_4 (dk_at dksX4_readsRule_2 21 rfl rfl)
theorem dX4_readsRule_69 : decode cX4_readsRule 69 = .ok (.iadd, 1) := dk_96 (dk_at dksX4_readsRule_2 22 rfl rfl)
theorem dX4_readsRule_70 : decode cX4_readsRule 70 = .ok (.putfield 225, 3) := dk_181 0 225 (dk_at dksX4_readsRule_3 0 rfl rfl)
theorem dX4_readsRule_73 : decode cX4_readsRule 73 = .ok (.aload_n 0, 1) := dk_42 (dk_at dksX4_readsRule_3 3 rfl rfl)
theorem dX4_readsRule_74 : decode cX4_readsRule 74 = .ok (.getfield 39, 3) := dk_180 0 39 (dk_at dksX4_readsRule_3 4 rfl rfl)
theorem dX4_readsRule_77 : decode cX4_readsRule 77 = .ok (.iconst 3, 1) := dk_6 (dk_at dksX4_readsRule_3 7 rfl rfl)
theorem dX4_readsRule_78 : decode cX4_readsRule 78 = .ok (.iconst 2, 1) := dk_5 (dk_at dksX4_readsRule_3 8 rfl rfl)
theorem dX4_readsRule_79 : decode cX4_readsRule 79 = .ok (.iastore, 1) := dk_79 (dk_at dksX4_readsRule_3 9 rfl rfl)
theorem dX4_readsRule_80 : decode cX4_readsRule 80 = .ok (.aload_n 0, 1) := dk_42 (dk_at dksX4_readsRule_3 10 rfl rfl)
theorem dX4_readsRule_81 : decode cX4_readsRule 81 = .ok (.iconst 4, 1) := dk_7 (dk_at dksX4_readsRule_3 11 rfl rfl)
theorem dX4_readsRule_82 : decode cX4_readsRule 82 = .ok (.iconst 0, 1) := dk_3 (dk_at dksX4_readsRule_3 12 rfl rfl)
theorem dX4_readsRule_83 : decode cX4_readsRule 83 = .ok (.invokevirtual 320, 3) := dk_182 1 64 (dk_at dksX4_readsRule_3 13 rfl rfl)
theorem dX4_readsRule_86 : decode cX4_readsRule 86 = .ok (.goto 32, 3) := dk_167 0 32 (dk_at dksX4_readsRule_3 16 rfl rfl)
theorem dX4_readsRule_89 : decode cX4_readsRule 89 = .ok (.aload_n 0, 1) := dk_42 (dk_at dksX4_readsRule_3 19 rfl rfl)
theorem dX4_readsRule_90 : decode cX4_readsRule 90 = .ok (.getfield 234, 3) := dk_180 0 234 (dk_at dksX4_readsRule_3 20 rfl rfl)
theorem dX4_readsRule_93 : decode cX4_readsRule 93 = .ok (.ifCond .ne 25, 3) := dk_154 0 25 (dk_at dksX4_readsRule_4 0 rfl rfl)
theorem dX4_readsRule_96 : decode cX4_readsRule 96 = .ok (.aload_n 0, 1) := dk_42 (dk_at dksX4_readsRule_4 3 rfl rfl)
theorem dX4_readsRule_97 : decode cX4_readsRule 97 = .ok (.invokevirtual 307, 3) := dk_182 1 51 (dk_at dksX4_readsRule_4 4 rfl rfl)
theorem dX4_readsRule_100 : decode cX4_readsRule 100 = .ok (.bipush 62, 2) := dk_16 62 (dk_at dksX4_readsRule_4 7 rfl rfl)
theorem dX4_readsRule_102 : decode cX4_readsRule 102 = .ok (.if_icmp .eq 16, 3) := dk_159 0 16 (dk_at dksX4_readsRule_4 9 rfl rfl)
theorem dX4_readsRule_105 : decode cX4_readsRule 105 = .ok (.aload_n 0, 1) := dk_42 (dk_at dksX4_readsRule_4 12 rfl rfl)
theorem dX4_readsRule_106 : decode cX4_readsRule 106 = .ok (.getfield 39, 3) := dk_180 0 39 (dk_at dksX4_readsRule_4 13 rfl rfl)
theorem dX4_readsRule_109 : decode cX4_readsRule 109 = .ok (.iconst 3, 1) := dk_6 (dk_at dksX4_readsRule_4 16 rfl rfl)
theorem dX4_readsRule_110 : decode cX4_readsRule 110 = .ok (.iconst 1, 1) := dk_4 (dk_at dksX4_readsRule_4 17 rfl rfl)
theorem dX4_readsRule_111 : decode cX4_readsRule 111 = .ok (.iastore, 1) := dk_79 (dk_at dksX4_readsRule_4 18 rfl rfl)
theorem dX4_readsRule_112 : decode cX4_readsRule 112 = .ok (.aload_n 0, 1) := dk_42 (dk_at dksX4_readsRule_4 19 rfl rfl)
theorem dX4_readsRule_113 : decode cX4_readsRule 113 = .ok (.iconst 4, 1) := dk_7 (dk_at dksX4_readsRule_4 20 rfl rfl)
theorem dX4_readsRule_114 : decode cX4_readsRule 114 = .ok (.iconst 1, 1) := dk_4 (dk_at dksX4_readsRule_4 21 rfl rfl)
theorem dX4_readsRule_115 : decode cX4_readsRule 115 = .ok (.invokevirtual 320, 3) := dk_182 1 64 (dk_at dksX4_readsRule_5 0 rfl rfl)
theorem dX4_readsRule_118 : decode cX4_readsRule 118 = .ok (.aload_n 0, 1) := dk_42 (dk_at dksX4_readsRule_5 3 rfl rfl)
theorem dX4_readsRule_119 : decode cX4_readsRule 119 = .ok (.bipush 62, 2) := dk_16 62 (dk_at dksX4_readsRule_5 4 rfl rfl)
theorem dX4_readsRule_121 : decode cX4_readsRule 121 = .ok (.invokevirtual 324, 3) := dk_182 1 68 (dk_at dksX4_readsRule_5 6 rfl rfl)
theorem dX4_readsRule_124 : decode cX4_readsRule 124 = .ok (.aload_n 0, 1) := dk_42 (dk_at dksX4_readsRule_5 9 rfl rfl)
theorem dX4_readsRule_125 : decode cX4_readsRule 125 = .ok (.bipush 7, 2) := dk_16 7 (dk_at dksX4_readsRule_5 10 rfl rfl)
theorem dX4_readsRule_127 : decode cX4_readsRule 127 = .ok (.iconst 0, 1) := dk_3 (dk_at dksX4_readsRule_5 12 rfl rfl)
theorem dX4_readsRule_128 : decode cX4_readsRule 128 = .ok (.invokevirtual 320, 3) := dk_182 1 64 (dk_at dksX4_readsRule_5 13 rfl rfl)
theorem dX4_readsRule_131 : decode cX4_readsRule 131 = .ok (.aload_n 0, 1) := dk_42 (dk_at dksX4_readsRule_5 16 rfl rfl)
theorem dX4_readsRule_132 : decode cX4_readsRule 132 = .ok (.bipush 42, 2) := dk_16 42 (dk_at dksX4_readsRule_5 17 rfl rfl)
theorem dX4_readsRule_134 : decode cX4_readsRule 134 = .ok (.invokevirtual 324, 3) := dk_182 1 68 (dk_at dksX4_readsRule_5 19 rfl rfl)
theorem dX4_readsRule_137 : decode cX4_readsRule 137 = .ok (.aload_n 0, 1) := dk_42 (dk_at dksX4_readsRule_5 22 rfl rfl)
theorem dX4_readsRule_138 : decode cX4_readsRule 138 = .ok (.getfield 39, 3) := dk_180 0 39 (dk_at dksX4_readsRule_6 0 rfl rfl)
theorem dX4_readsRule_141 : decode cX4_readsRule 141 = .ok (.bipush 10, 2) := dk_16 10 (dk_at dksX4_readsRule_6 3 rfl rfl)
theorem dX4_readsRule_143 : decode cX4_readsRule 143 = .ok (.aload_n 0, 1) := dk_42 (dk_at dksX4_readsRule_6 5 rfl rfl)
theorem dX4_readsRule_144 : decode cX4_readsRule 144 = .ok (.iconst 1, 1) := dk_4 (dk_at dksX4_readsRule_6 6 rfl rfl)
theorem dX4_readsRule_145 : decode cX4_readsRule 145 = .ok (.invokevirtual 327, 3) := dk_182 1 71 (dk_at dksX4_readsRule_6 7 rfl rfl)
theorem dX4_readsRule_148 : decode cX4_readsRule 148 = .ok (.iastore, 1) := dk_79 (dk_at dksX4_readsRule_6 10 rfl rfl)
theorem dX4_readsRule_149 : decode cX4_readsRule 149 = .ok (.return_, 1) := dk_177 (dk_at dksX4_readsRule_6 11 rfl rfl)
abbrev cX4_pattern : ByteArray := prog_14_method_92_code
def yX4_pattern : MethodName := ⟨RX4, "pattern", "(IZ)V"⟩
def dkwX4_pattern_1 : List UInt8 := [180, 0, 39, 27, 5, 96, 42, 28, 182, 1, 60, 79, 177]
abbrev dktX4_pattern_1 : List UInt8 := dkwX4_pattern_1 ++ []
def dkwX4_pattern_0 : List UInt8 := [42, 180, 0, 39, 27, 42, 182, 1, 57, 79, 42, 180, 0, 39, 27, 4, 96, 42, 28, 182, 1, 60, 79, 42]
abbrev dktX4_pattern_0 : List UInt8 := dkwX4_pattern_0 ++ dktX4_pattern_1
theorem dksX4_pattern_0 : cX4_pattern.data.toList.drop 0 = dktX4_pattern_0 := by decide +kernel
theorem dksX4_pattern_1 : cX4_pattern.data.toList.drop 24 = dktX4_pattern_1 := dk_seg dksX4_pattern_0 24 rfl rfl
theorem dX4_pattern_0 : decode cX4_pattern 0 = .ok (.aload_n 0, 1) := dk_42 (dk_at dksX4_pattern_0 0 rfl rfl)
theorem dX4_pattern_1 : decode cX4_pattern 1 = .ok (.getfield 39, 3) := dk_180 0 39 (dk_at dksX4_pattern_0 1 rfl rfl)
theorem dX4_pattern_4 : decode cX4_pattern 4 = .ok (.iload_n 1, 1) := dk_27 (dk_at dksX4_pattern_0 4 rfl rfl)
theorem dX4_pattern_5 : decode cX4_pattern 5 = .ok (.aload_n 0, 1) := dk_42 (dk_at dksX4_pattern_0 5 rfl rfl)
theorem dX4_pattern_6 : decode cX4_pattern 6 = .ok (.invokevirtual 313, 3) := dk_182 1 57 (dk_at dksX4_pattern_0 6 rfl rfl)
theorem dX4_pattern_9 : decode cX4_pattern 9 = .ok (.iastore, 1) := dk_79 (dk_at dksX4_pattern_0 9 rfl rfl)
theorem dX4_pattern_10 : decode cX4_pattern 10 = .ok (.aload_n 0, 1) := dk_42 (dk_at dksX4_pattern_0 10 rfl rfl)
theorem dX4_pattern_11 : decode cX4_pattern 11 = .ok (.getfield 39, 3) := dk_180 0 39 (dk_at dksX4_pattern_0 11 rfl rfl)
theorem dX4_pattern_14 : decode cX4_pattern 14 = .ok (.iload_n 1, 1) := dk_27 (dk_at dksX4_pattern_0 14 rfl rfl)
theorem dX4_pattern_15 : decode cX4_pattern 15 = .ok (.iconst 1, 1) := dk_4 (dk_at dksX4_pattern_0 15 rfl rfl)
theorem dX4_pattern_16 : decode cX4_pattern 16 = .ok (.iadd, 1) := dk_96 (dk_at dksX4_pattern_0 16 rfl rfl)
theorem dX4_pattern_17 : decode cX4_pattern 17 = .ok (.aload_n 0, 1) := dk_42 (dk_at dksX4_pattern_0 17 rfl rfl)
theorem dX4_pattern_18 : decode cX4_pattern 18 = .ok (.iload_n 2, 1) := dk_28 (dk_at dksX4_pattern_0 18 rfl rfl)
theorem dX4_pattern_19 : decode cX4_pattern 19 = .ok (.invokevirtual 316, 3) := dk_182 1 60 (dk_at dksX4_pattern_0 19 rfl rfl)
theorem dX4_pattern_22 : decode cX4_pattern 22 = .ok (.iastore, 1) := dk_79 (dk_at dksX4_pattern_0 22 rfl rfl)
theorem dX4_pattern_23 : decode cX4_pattern 23 = .ok (.aload_n 0, 1) := dk_42 (dk_at dksX4_pattern_0 23 rfl rfl)
theorem dX4_pattern_24 : decode cX4_pattern 24 = .ok (.getfield 39, 3) := dk_180 0 39 (dk_at dksX4_pattern_1 0 rfl rfl)
theorem dX4_pattern_27 : decode cX4_pattern 27 = .ok (.iload_n 1, 1) := dk_27 (dk_at dksX4_pattern_1 3 rfl rfl)
theorem dX4_pattern_28 : decode cX4_pattern 28 = .ok (.iconst 2, 1) := dk_5 (dk_at dksX4_pattern_1 4 rfl rfl)
theorem dX4_pattern_29 : decode cX4_pattern 29 = .ok (.iadd, 1) := dk_96 (dk_at dksX4_pattern_1 5 rfl rfl)
theorem dX4_pattern_30 : decode cX4_pattern 30 = .ok (.aload_n 0, 1) := dk_42 (dk_at dksX4_pattern_1 6 rfl rfl)
theorem dX4_pattern_31 : decode cX4_pattern 31 = .ok (.iload_n 2, 1) := dk_28 (dk_at dksX4_pattern_1 7 rfl rfl)
theorem dX4_pattern_32 : decode cX4_pattern 32 = .ok (.invokevirtual 316, 3) := dk_182 1 60 (dk_at dksX4_pattern_1 8 rfl rfl)
theorem dX4_pattern_35 : decode cX4_pattern 35 = .ok (.iastore, 1) := dk_79 (dk_at dksX4_pattern_1 11 rfl rfl)
theorem dX4_pattern_36 : decode cX4_pattern 36 = .ok (.return_, 1) := dk_177 (dk_at dksX4_pattern_1 12 rfl rfl)
abbrev cX4_kind : ByteArray := prog_14_method_90_code
def yX4_kind : MethodName := ⟨RX4, "kind", "()I"⟩
def dkwX4_kind_1 : List UInt8 := [167, 0, 4, 3, 181, 0, 234, 42, 182, 1, 54, 172]
abbrev dktX4_kind_1 : List UInt8 := dkwX4_kind_1 ++ []
def dkwX4_kind_0 : List UInt8 := [42, 42, 180, 0, 234, 154, 0, 17, 42, 182, 1, 51, 16, 97, 16, 102, 184, 0, 209, 154, 0, 7, 4]
abbrev dktX4_kind_0 : List UInt8 := dkwX4_kind_0 ++ dktX4_kind_1
theorem dksX4_kind_0 : cX4_kind.data.toList.drop 0 = dktX4_kind_0 := by decide +kernel
theorem dksX4_kind_1 : cX4_kind.data.toList.drop 23 = dktX4_kind_1 := dk_seg dksX4_kind_0 23 rfl rfl
theorem dX4_kind_0 : decode cX4_kind 0 = .ok (.aload_n 0, 1) := dk_42 (dk_at dksX4_kind_0 0 rfl rfl)
theorem dX4_kind_1 : decode cX4_kind 1 = .ok (.aload_n 0, 1) := dk_42 (dk_at dksX4_kind_0 1 rfl rfl)
theorem dX4_kind_2 : decode cX4_kind 2 = .ok (.getfield 234, 3) := dk_180 0 234 (dk_at dksX4_kind_0 2 rfl rfl)
theorem dX4_kind_5 : decode cX4_kind 5 = .ok (.ifCond .ne 17, 3) := dk_154 0 17 (dk_at dksX4_kind_0 5 rfl rfl)
theorem dX4_kind_8 : decode cX4_kind 8 = .ok (.aload_n 0, 1) := dk_42 (dk_at dksX4_kind_0 8 rfl rfl)
theorem dX4_kind_9 : decode cX4_kind 9 = .ok (.invokevirtual 307, 3) := dk_182 1 51 (dk_at dksX4_kind_0 9 rfl rfl)
theorem dX4_kind_12 : decode cX4_kind 12 = .ok (.bipush 97, 2) := dk_16 97 (dk_at dksX4_kind_0 12 rfl rfl)
theorem dX4_kind_14 : decode cX4_kind 14 = .ok (.bipush 102, 2) := dk_16 102 (dk_at dksX4_kind_0 14 rfl rfl)
theorem dX4_kind_16 : decode cX4_kind 16 = .ok (.invokestatic 209, 3) := dk_184 0 209 (dk_at dksX4_kind_0 16 rfl rfl)
theorem dX4_kind_19 : decode cX4_kind 19 = .ok (.ifCond .ne 7, 3) := dk_154 0 7 (dk_at dksX4_kind_0 19 rfl rfl)
theorem dX4_kind_22 : decode cX4_kind 22 = .ok (.iconst 1, 1) := dk_4 (dk_at dksX4_kind_0 22 rfl rfl)
theorem dX4_kind_23 : decode cX4_kind 23 = .ok (.goto 4, 3) := dk_167 0 4 (dk_at dksX4_kind_1 0 rfl rfl)
theorem dX4_kind_26 : decode cX4_kind 26 = .ok (.iconst 0, 1) := dk_3 (dk_at dksX4_kind_1 3 rfl rfl)
theorem dX4_kind_27 : decode cX4_kind 27 = .ok (.putfield 234, 3) := dk_181 0 234 (dk_at dksX4_kind_1 4 rfl rfl)
theorem dX4_kind_30 : decode cX4_kind 30 = .ok (.aload_n 0, 1) := dk_42 (dk_at dksX4_kind_1 7 rfl rfl)
theorem dX4_kind_31 : decode cX4_kind 31 = .ok (.invokevirtual 310, 3) := dk_182 1 54 (dk_at dksX4_kind_1 8 rfl rfl)
theorem dX4_kind_34 : decode cX4_kind 34 = .ok (.ireturn, 1) := dk_172 (dk_at dksX4_kind_1 11 rfl rfl)
abbrev cX4_here : ByteArray := prog_14_method_86_code
def yX4_here : MethodName := ⟨RX4, "here", "()I"⟩
def dkwX4_here_1 : List UInt8 := [172]
abbrev dktX4_here_1 : List UInt8 := dkwX4_here_1 ++ []
def dkwX4_here_0 : List UInt8 := [42, 180, 0, 225, 42, 180, 0, 231, 162, 0, 15, 42, 180, 0, 26, 42, 180, 0, 225, 46, 167, 0, 4, 2]
abbrev dktX4_here_0 : List UInt8 := dkwX4_here_0 ++ dktX4_here_1
theorem dksX4_here_0 : cX4_here.data.toList.drop 0 = dktX4_here_0 := by decide +kernel
theorem dksX4_here_1 : cX4_here.data.toList.drop 24 = dktX4_here_1 := dk_seg dksX4_here_0 24 rfl rfl
theorem dX4_here_0 : decode cX4_here 0 = .ok (.aload_n 0, 1) := dk_42 (dk_at dksX4_here_0 0 rfl rfl)
theorem dX4_here_1 : decode cX4_here 1 = .ok (.getfield 225, 3) := dk_180 0 225 (dk_at dksX4_here_0 1 rfl rfl)
theorem dX4_here_4 : decode cX4_here 4 = .ok (.aload_n 0, 1) := dk_42 (dk_at dksX4_here_0 4 rfl rfl)
theorem dX4_here_5 : decode cX4_here 5 = .ok (.getfield 231, 3) := dk_180 0 231 (dk_at dksX4_here_0 5 rfl rfl)
theorem dX4_here_8 : decode cX4_here 8 = .ok (.if_icmp .ge 15, 3) := dk_162 0 15 (dk_at dksX4_here_0 8 rfl rfl)
theorem dX4_here_11 : decode cX4_here 11 = .ok (.aload_n 0, 1) := dk_42 (dk_at dksX4_here_0 11 rfl rfl)
theorem dX4_here_12 : decode cX4_here 12 = .ok (.getfield 26, 3) := dk_180 0 26 (dk_at dksX4_here_0 12 rfl rfl)
theorem dX4_here_15 : decode cX4_here 15 = .ok (.aload_n 0, 1) := dk_42 (dk_at dksX4_here_0 15 rfl rfl)
theorem dX4_here_16 : decode cX4_here 16 = .ok (.getfield 225, 3) := dk_180 0 225 (dk_at dksX4_here_0 16 rfl rfl)
theorem dX4_here_19 : decode cX4_here 19 = .ok (.iaload, 1) := dk_46 (dk_at dksX4_here_0 19 rfl rfl)
theorem dX4_here_20 : decode cX4_here 20 = .ok (.goto 4, 3) := dk_167 0 4 (dk_at dksX4_here_0 20 rfl rfl)
theorem dX4_here_23 : decode cX4_here 23 = .ok (.iconst (-1), 1) := dk_2 (dk_at dksX4_here_0 23 rfl rfl)
theorem dX4_here_24 : decode cX4_here 24 = .ok (.ireturn, 1) := dk_172 (dk_at dksX4_here_1 0 rfl rfl)
abbrev cX4_in : ByteArray := prog_14_method_4_code
def yX4_in : MethodName := ⟨RX4, "in", "(III)Z"⟩
def dkwX4_in_0 : List UInt8 := [26, 27, 161, 0, 12, 26, 28, 163, 0, 7, 4, 167, 0, 4, 3, 172]
abbrev dktX4_in_0 : List UInt8 := dkwX4_in_0 ++ []
theorem dksX4_in_0 : cX4_in.data.toList.drop 0 = dktX4_in_0 := by decide +kernel
theorem dX4_in_0 : decode cX4_in 0 = .ok (.iload_n 0, 1) := dk_26 (dk_at dksX4_in_0 0 rfl rfl)
theorem dX4_in_1 : decode cX4_in 1 = .ok (.iload_n 1, 1) := dk_27 (dk_at dksX4_in_0 1 rfl rfl)
theorem dX4_in_2 : decode cX4_in 2 = .ok (.if_icmp .lt 12, 3) := dk_161 0 12 (dk_at dksX4_in_0 2 rfl rfl)
theorem dX4_in_5 : decode cX4_in 5 = .ok (.iload_n 0, 1) := dk_26 (dk_at dksX4_in_0 5 rfl rfl)
theorem dX4_in_6 : decode cX4_in 6 = .ok (.iload_n 2, 1) := dk_28 (dk_at dksX4_in_0 6 rfl rfl)
theorem dX4_in_7 : decode cX4_in 7 = .ok (.if_icmp .gt 7, 3) := dk_163 0 7 (dk_at dksX4_in_0 7 rfl rfl)
theorem dX4_in_10 : decode cX4_in 10 = .ok (.iconst 1, 1) := dk_4 (dk_at dksX4_in_0 10 rfl rfl)
theorem dX4_in_11 : decode cX4_in 11 = .ok (.goto 4, 3) := dk_167 0 4 (dk_at dksX4_in_0 11 rfl rfl)
theorem dX4_in_14 : decode cX4_in 14 = .ok (.iconst 0, 1) := dk_3 (dk_at dksX4_in_0 14 rfl rfl)
theorem dX4_in_15 : decode cX4_in 15 = .ok (.ireturn, 1) := dk_172 (dk_at dksX4_in_0 15 rfl rfl)
abbrev cX4_takes : ByteArray := prog_14_method_87_code
def yX4_takes : MethodName := ⟨RX4, "takes", "()I"⟩
def dkwX4_takes_1 : List UInt8 := [181, 0, 225, 27, 172]
abbrev dktX4_takes_1 : List UInt8 := dkwX4_takes_1 ++ []
def dkwX4_takes_0 : List UInt8 := [42, 182, 1, 51, 60, 42, 89, 180, 0, 225, 42, 180, 0, 234, 153, 0, 7, 3, 167, 0, 4, 4, 96]
abbrev dktX4_takes_0 : List UInt8 := dkwX4_takes_0 ++ dktX4_takes_1
theorem dksX4_takes_0 : cX4_takes.data.toList.drop 0 = dktX4_takes_0 := by decide +kernel
theorem dksX4_takes_1 : cX4_takes.data.toList.drop 23 = dktX4_takes_1 := dk_seg dksX4_takes_0 23 rfl rfl
theorem dX4_takes_0 : decode cX4_takes 0 = .ok (.aload_n 0, 1) := dk_42 (dk_at dksX4_takes_0 0 rfl rfl)
theorem dX4_takes_1 : decode cX4_takes 1 = .ok (.invokevirtual 307, 3) := dk_182 1 51 (dk_at dksX4_takes_0 1 rfl rfl)
theorem dX4_takes_4 : decode cX4_takes 4 = .ok (.istore_n 1, 1) := dk_60 (dk_at dksX4_takes_0 4 rfl rfl)
theorem dX4_takes_5 : decode cX4_takes 5 = .ok (.aload_n 0, 1) := dk_42 (dk_at dksX4_takes_0 5 rfl rfl)
theorem dX4_takes_6 : decode cX4_takes 6 = .ok (.dup, 1) := dk_89 (dk_at dksX4_takes_0 6 rfl rfl)
theorem dX4_takes_7 : decode cX4_takes 7 = .ok (.getfield 225, 3) := dk_180 0 225 (dk_at dksX4_takes_0 7 rfl rfl)
theorem dX4_takes_10 : decode cX4_takes 10 = .ok (.aload_n 0, 1) := dk_42 (dk_at dksX4_takes_0 10 rfl rfl)
theorem dX4_takes_11 : decode cX4_takes 11 = .ok (.getfield 234, 3) := dk_180 0 234 (dk_at dksX4_takes_0 11 rfl rfl)
theorem dX4_takes_14 : decode cX4_takes 14 = .ok (.ifCond .eq 7, 3) := dk_153 0 7 (dk_at dksX4_takes_0 14 rfl rfl)
theorem dX4_takes_17 : decode cX4_takes 17 = .ok (.iconst 0, 1) := dk_3 (dk_at dksX4_takes_0 17 rfl rfl)
theorem dX4_takes_18 : decode cX4_takes 18 = .ok (.goto 4, 3) := dk_167 0 4 (dk_at dksX4_takes_0 18 rfl rfl)
theorem dX4_takes_21 : decode cX4_takes 21 = .ok (.iconst 1, 1) := dk_4 (dk_at dksX4_takes_0 21 rfl rfl)
theorem dX4_takes_22 : decode cX4_takes 22 = .ok (.iadd, 1) := dk_96 (dk_at dksX4_takes_0 22 rfl rfl)
theorem dX4_takes_23 : decode cX4_takes 23 = .ok (.putfield 225, 3) := dk_181 0 225 (dk_at dksX4_takes_1 0 rfl rfl)
theorem dX4_takes_26 : decode cX4_takes 26 = .ok (.iload_n 1, 1) := dk_27 (dk_at dksX4_takes_1 3 rfl rfl)
theorem dX4_takes_27 : decode cX4_takes 27 = .ok (.ireturn, 1) := dk_172 (dk_at dksX4_takes_1 4 rfl rfl)
abbrev cX4_term : ByteArray := prog_14_method_91_code
def yX4_term : MethodName := ⟨RX4, "term", "(Z)I"⟩
def dkwX4_term_4 : List UInt8 := [16, 88, 100, 4, 84, 29, 153, 0, 13, 16, 10, 28, 96, 16, 88, 100, 167, 0, 7, 28, 16, 48, 100, 172]
abbrev dktX4_term_4 : List UInt8 := dkwX4_term_4 ++ []
def dkwX4_term_3 : List UInt8 := [153, 0, 5, 3, 172, 42, 89, 180, 0, 225, 4, 96, 181, 0, 225, 29, 153, 0, 13, 42, 180, 0, 81, 28]
abbrev dktX4_term_3 : List UInt8 := dkwX4_term_3 ++ dktX4_term_4
def dkwX4_term_2 : List UInt8 := [180, 0, 81, 28, 16, 88, 100, 51, 154, 0, 7, 4, 167, 0, 4, 3, 181, 0, 234, 42, 180, 0, 234]
abbrev dktX4_term_2 : List UInt8 := dkwX4_term_2 ++ dktX4_term_3
def dkwX4_term_1 : List UInt8 := [16, 48, 16, 57, 184, 0, 209, 154, 0, 7, 29, 153, 0, 23, 29, 153, 0, 23, 27, 154, 0, 19, 42]
abbrev dktX4_term_1 : List UInt8 := dkwX4_term_1 ++ dktX4_term_2
def dkwX4_term_0 : List UInt8 := [42, 182, 1, 51, 61, 28, 16, 88, 16, 90, 184, 0, 209, 62, 42, 42, 180, 0, 234, 154, 0, 38, 28]
abbrev dktX4_term_0 : List UInt8 := dkwX4_term_0 ++ dktX4_term_1
theorem dksX4_term_0 : cX4_term.data.toList.drop 0 = dktX4_term_0 := by decide +kernel
theorem dksX4_term_1 : cX4_term.data.toList.drop 23 = dktX4_term_1 := dk_seg dksX4_term_0 23 rfl rfl
theorem dksX4_term_2 : cX4_term.data.toList.drop 46 = dktX4_term_2 := dk_seg dksX4_term_1 23 rfl rfl
theorem dksX4_term_3 : cX4_term.data.toList.drop 69 = dktX4_term_3 := dk_seg dksX4_term_2 23 rfl rfl
theorem dksX4_term_4 : cX4_term.data.toList.drop 93 = dktX4_term_4 := dk_seg dksX4_term_3 24 rfl rfl
theorem dX4_term_0 : decode cX4_term 0 = .ok (.aload_n 0, 1) := dk_42 (dk_at dksX4_term_0 0 rfl rfl)
theorem dX4_term_1 : decode cX4_term 1 = .ok (.invokevirtual 307, 3) := dk_182 1 51 (dk_at dksX4_term_0 1 rfl rfl)
theorem dX4_term_4 : decode cX4_term 4 = .ok (.istore_n 2, 1) := dk_61 (dk_at dksX4_term_0 4 rfl rfl)
theorem dX4_term_5 : decode cX4_term 5 = .ok (.iload_n 2, 1) := dk_28 (dk_at dksX4_term_0 5 rfl rfl)
theorem dX4_term_6 : decode cX4_term 6 = .ok (.bipush 88, 2) := dk_16 88 (dk_at dksX4_term_0 6 rfl rfl)
theorem dX4_term_8 : decode cX4_term 8 = .ok (.bipush 90, 2) := dk_16 90 (dk_at dksX4_term_0 8 rfl rfl)
theorem dX4_term_10 : decode cX4_term 10 = .ok (.invokestatic 209, 3) := dk_184 0 209 (dk_at dksX4_term_0 10 rfl rfl)
theorem dX4_term_13 : decode cX4_term 13 = .ok (.istore_n 3, 1) := dk_62 (dk_at dksX4_term_0 13 rfl rfl)
theorem dX4_term_14 : decode cX4_term 14 = .ok (.aload_n 0, 1) := dk_42 (dk_at dksX4_term_0 14 rfl rfl)
theorem dX4_term_15 : decode cX4_term 15 = .ok (.aload_n 0, 1) := dk_42 (dk_at dksX4_term_0 15 rfl rfl)
theorem dX4_term_16 : decode cX4_term 16 = .ok (.getfield 234, 3) := dk_180 0 234 (dk_at dksX4_term_0 16 rfl rfl)
theorem dX4_term_19 : decode cX4_term 19 = .ok (.ifCond .ne 38, 3) := dk_154 0 38 (dk_at dksX4_term_0 19 rfl rfl)
theorem dX4_term_22 : decode cX4_term 22 = .ok (.iload_n 2, 1) := dk_28 (dk_at dksX4_term_0 22 rfl rfl)
theorem dX4_term_23 : decode cX4_term 23 = .ok (.bipush 48, 2) := dk_16 48 (dk_at dksX4_term_1 0 rfl rfl)
theorem dX4_term_25 : decode cX4_term 25 = .ok (.bipush 57, 2) := dk_16 57 (dk_at dksX4_term_1 2 rfl rfl)
theorem dX4_term_27 : decode cX4_term 27 = .ok (.invokestatic 209, 3) := dk_184 0 209 (dk_at dksX4_term_1 4 rfl rfl)
theorem dX4_term_30 : decode cX4_term 30 = .ok (.ifCond .ne 7, 3) := dk_154 0 7 (dk_at dksX4_term_1 7 rfl rfl)
theorem dX4_term_33 : decode cX4_term 33 = .ok (.iload_n 3, 1) := dk_29 (dk_at dksX4_term_1 10 rfl rfl)
theorem dX4_term_34 : decode cX4_term 34 = .ok (.ifCond .eq 23, 3) := dk_153 0 23 (dk_at dksX4_term_1 11 rfl rfl)
theorem dX4_term_37 : decode cX4_term 37 = .ok (.iload_n 3, 1) := dk_29 (dk_at dksX4_term_1 14 rfl rfl)
theorem dX4_term_38 : decode cX4_term 38 = .ok (.ifCond .eq 23, 3) := dk_153 0 23 (dk_at dksX4_term_1 15 rfl rfl)
theorem dX4_term_41 : decode cX4_term 41 = .ok (.iload_n 1, 1) := dk_27 (dk_at dksX4_term_1 18 rfl rfl)
theorem dX4_term_42 : decode cX4_term 42 = .ok (.ifCond .ne 19, 3) := dk_154 0 19 (dk_at dksX4_term_1 19 rfl rfl)
theorem dX4_term_45 : decode cX4_term 45 = .ok (.aload_n 0, 1) := dk_42 (dk_at dksX4_term_1 22 rfl rfl)
theorem dX4_term_46 : decode cX4_term 46 = .ok (.getfield 81, 3) := dk_180 0 81 (dk_at dksX4_term_2 0 rfl rfl)
theorem dX4_term_49 : decode cX4_term 49 = .ok (.iload_n 2, 1) := dk_28 (dk_at dksX4_term_2 3 rfl rfl)
theorem dX4_term_50 : decode cX4_term 50 = .ok (.bipush 88, 2) := dk_16 88 (dk_at dksX4_term_2 4 rfl rfl)
theorem dX4_term_52 : decode cX4_term 52 = .ok (.isub, 1) := dk_100 (dk_at dksX4_term_2 6 rfl rfl)
theorem dX4_term_53 : decode cX4_term 53 = .ok (.baload, 1) := dk_51 (dk_at dksX4_term_2 7 rfl rfl)
theorem dX4_term_54 : decode cX4_term 54 = .ok (.ifCond .ne 7, 3) := dk_154 0 7 (dk_at dksX4_term_2 8 rfl rfl)
theorem dX4_term_57 : decode cX4_term 57 = .ok (.iconst 1, 1) := dk_4 (dk_at dksX4_term_2 11 rfl rfl)
theorem dX4_term_58 : decode cX4_term 58 = .ok (.goto 4, 3) := dk_167 0 4 (dk_at dksX4_term_2 12 rfl rfl)
theorem dX4_term_61 : decode cX4_term 61 = .ok (.iconst 0, 1) := dk_3 (dk_at dksX4_term_2 15 rfl rfl)
theorem dX4_term_62 : decode cX4_term 62 = .ok (.putfield 234, 3) := dk_181 0 234 (dk_at dksX4_term_2 16 rfl rfl)
theorem dX4_term_65 : decode cX4_term 65 = .ok (.aload_n 0, 1) := dk_42 (dk_at dksX4_term_2 19 rfl rfl)
theorem dX4_term_66 : decode cX4_term 66 = .ok (.getfield 234, 3) := dk_180 0 234 (dk_at dksX4_term_2 20 rfl rfl)
theorem dX4_term_69 : decode cX4_term 69 = .ok (.ifCond .eq 5, 3) := dk_153 0 5 (dk_at dksX4_term_3 0 rfl rfl)
theorem dX4_term_72 : decode cX4_term 72 = .ok (.iconst 0, 1) := dk_3 (dk_at dksX4_term_3 3 rfl rfl)
theorem dX4_term_73 : decode cX4_term 73 = .ok (.ireturn, 1) := dk_172 (dk_at dksX4_term_3 4 rfl rfl)
theorem dX4_term_74 : decode cX4_term 74 = .ok (.aload_n 0, 1) := dk_42 (dk_at dksX4_term_3 5 rfl rfl)
theorem dX4_term_75 : decode cX4_term 75 = .ok (.dup, 1) := dk_89 (dk_at dksX4_term_3 6 rfl rfl)
theorem dX4_term_76 : decode cX4_term 76 = .ok (.getfield 225, 3) := dk_180 0 225 (dk_at dksX4_term_3 7 rfl rfl)
theorem dX4_term_79 : decode cX4_term 79 = .ok (.iconst 1, 1) := dk_4 (dk_at dksX4_term_3 10 rfl rfl)
theorem dX4_term_80 : decode cX4_term 80 = .ok (.iadd, 1) := dk_96 (dk_at dksX4_term_3 11 rfl rfl)
theorem dX4_term_81 : decode cX4_term 81 = .ok (.putfield 225, 3) := dk_181 0 225 (dk_at dksX4_term_3 12 rfl rfl)
theorem dX4_term_84 : decode cX4_term 84 = .ok (.iload_n 3, 1) := dk_29 (dk_at dksX4_term_3 15 rfl rfl)
theorem dX4_term_85 : decode cX4_term 85 = .ok (.ifCond .eq 13, 3) := dk_153 0 13 (dk_at dksX4_term_3 16 rfl rfl)
theorem dX4_term_88 : decode cX4_term 88 = .ok (.aload_n 0, 1) := dk_42 (dk_at dksX4_term_3 19 rfl rfl)
theorem dX4_term_89 : decode cX4_term 89 = .ok (.getfield 81, 3) := dk_180 0 81 (dk_at dksX4_term_3 20 rfl rfl)
theorem dX4_term_92 : decode cX4_term 92 = .ok (.iload_n 2, 1) := dk_28 (dk_at dksX4_term_3 23 rfl rfl)
theorem dX4_term_93 : decode cX4_term 93 = .ok (.bipush 88, 2) := dk_16 88 (dk_at dksX4_term_4 0 rfl rfl)
theorem dX4_term_95 : decode cX4_term 95 = .ok (.isub, 1) := dk_100 (dk_at dksX4_term_4 2 rfl rfl)
theorem dX4_term_96 : decode cX4_term 96 = .ok (.iconst 1, 1) := dk_4 (dk_at dksX4_term_4 3 rfl rfl)
theorem dX4_term_97 : decode cX4_term 97 = .ok (.bastore, 1) := dk_84 (dk_at dksX4_term_4 4 rfl rfl)
theorem dX4_term_98 : decode cX4_term 98 = .ok (.iload_n 3, 1) := dk_29 (dk_at dksX4_term_4 5 rfl rfl)
theorem dX4_term_99 : decode cX4_term 99 = .ok (.ifCond .eq 13, 3) := dk_153 0 13 (dk_at dksX4_term_4 6 rfl rfl)
theorem dX4_term_102 : decode cX4_term 102 = .ok (.bipush 10, 2) := dk_16 10 (dk_at dksX4_term_4 9 rfl rfl)
theorem dX4_term_104 : decode cX4_term 104 = .ok (.iload_n 2, 1) := dk_28 (dk_at dksX4_term_4 11 rfl rfl)
theorem dX4_term_105 : decode cX4_term 105 = .ok (.iadd, 1) := dk_96 (dk_at dksX4_term_4 12 rfl rfl)
theorem dX4_term_106 : decode cX4_term 106 = .ok (.bipush 88, 2) := dk_16 88 (dk_at dksX4_term_4 13 rfl rfl)
theorem dX4_term_108 : decode cX4_term 108 = .ok (.isub, 1) := dk_100 (dk_at dksX4_term_4 15 rfl rfl)
theorem dX4_term_109 : decode cX4_term 109 = .ok (.goto 7, 3) := dk_167 0 7 (dk_at dksX4_term_4 16 rfl rfl)
theorem dX4_term_112 : decode cX4_term 112 = .ok (.iload_n 2, 1) := dk_28 (dk_at dksX4_term_4 19 rfl rfl)
theorem dX4_term_113 : decode cX4_term 113 = .ok (.bipush 48, 2) := dk_16 48 (dk_at dksX4_term_4 20 rfl rfl)
theorem dX4_term_115 : decode cX4_term 115 = .ok (.isub, 1) := dk_100 (dk_at dksX4_term_4 22 rfl rfl)
theorem dX4_term_116 : decode cX4_term 116 = .ok (.ireturn, 1) := dk_172 (dk_at dksX4_term_4 23 rfl rfl)
abbrev cX4_must : ByteArray := prog_14_method_88_code
def yX4_must : MethodName := ⟨RX4, "must", "(I)V"⟩
def dkwX4_must_1 : List UInt8 := [42, 182, 1, 54, 61, 177]
abbrev dktX4_must_1 : List UInt8 := dkwX4_must_1 ++ []
def dkwX4_must_0 : List UInt8 := [42, 42, 180, 0, 234, 154, 0, 11, 42, 182, 1, 51, 27, 159, 0, 7, 4, 167, 0, 4, 3, 181, 0, 234]
abbrev dktX4_must_0 : List UInt8 := dkwX4_must_0 ++ dktX4_must_1
theorem dksX4_must_0 : cX4_must.data.toList.drop 0 = dktX4_must_0 := by decide +kernel
theorem dksX4_must_1 : cX4_must.data.toList.drop 24 = dktX4_must_1 := dk_seg dksX4_must_0 24 rfl rfl
theorem dX4_must_0 : decode cX4_must 0 = .ok (.aload_n 0, 1) := dk_42 (dk_at dksX4_must_0 0 rfl rfl)
theorem dX4_must_1 : decode cX4_must 1 = .ok (.aload_n 0, 1) := dk_42 (dk_at dksX4_must_0 1 rfl rfl)
theorem dX4_must_2 : decode cX4_must 2 = .ok (.getfield 234, 3) := dk_180 0 234 (dk_at dksX4_must_0 2 rfl rfl)
theorem dX4_must_5 : decode cX4_must 5 = .ok (.ifCond .ne 11, 3) := dk_154 0 11 (dk_at dksX4_must_0 5 rfl rfl)
theorem dX4_must_8 : decode cX4_must 8 = .ok (.aload_n 0, 1) := dk_42 (dk_at dksX4_must_0 8 rfl rfl)
theorem dX4_must_9 : decode cX4_must 9 = .ok (.invokevirtual 307, 3) := dk_182 1 51 (dk_at dksX4_must_0 9 rfl rfl)
theorem dX4_must_12 : decode cX4_must 12 = .ok (.iload_n 1, 1) := dk_27 (dk_at dksX4_must_0 12 rfl rfl)
theorem dX4_must_13 : decode cX4_must 13 = .ok (.if_icmp .eq 7, 3) := dk_159 0 7 (dk_at dksX4_must_0 13 rfl rfl)
theorem dX4_must_16 : decode cX4_must 16 = .ok (.iconst 1, 1) := dk_4 (dk_at dksX4_must_0 16 rfl rfl)
theorem dX4_must_17 : decode cX4_must 17 = .ok (.goto 4, 3) := dk_167 0 4 (dk_at dksX4_must_0 17 rfl rfl)
theorem dX4_must_20 : decode cX4_must 20 = .ok (.iconst 0, 1) := dk_3 (dk_at dksX4_must_0 20 rfl rfl)
theorem dX4_must_21 : decode cX4_must 21 = .ok (.putfield 234, 3) := dk_181 0 234 (dk_at dksX4_must_0 21 rfl rfl)
theorem dX4_must_24 : decode cX4_must 24 = .ok (.aload_n 0, 1) := dk_42 (dk_at dksX4_must_1 0 rfl rfl)
theorem dX4_must_25 : decode cX4_must 25 = .ok (.invokevirtual 310, 3) := dk_182 1 54 (dk_at dksX4_must_1 1 rfl rfl)
theorem dX4_must_28 : decode cX4_must 28 = .ok (.istore_n 2, 1) := dk_61 (dk_at dksX4_must_1 4 rfl rfl)
theorem dX4_must_29 : decode cX4_must 29 = .ok (.return_, 1) := dk_177 (dk_at dksX4_must_1 5 rfl rfl)
abbrev cX4_number : ByteArray := prog_14_method_89_code
def yX4_number : MethodName := ⟨RX4, "number", "(I)I"⟩
def dkwX4_number_3 : List UInt8 := [180, 0, 234, 154, 0, 7, 29, 154, 0, 7, 4, 167, 0, 4, 3, 181, 0, 234, 28, 172]
abbrev dktX4_number_3 : List UInt8 := dkwX4_number_3 ++ []
def dkwX4_number_2 : List UInt8 := [16, 48, 100, 61, 42, 89, 180, 0, 225, 4, 96, 181, 0, 225, 132, 3, 1, 167, 255, 196, 42, 42]
abbrev dktX4_number_2 : List UInt8 := dkwX4_number_2 ++ dktX4_number_3
def dkwX4_number_1 : List UInt8 := [184, 0, 209, 153, 0, 40, 29, 153, 0, 7, 28, 158, 0, 32, 16, 10, 28, 104, 42, 182, 1, 51, 96]
abbrev dktX4_number_1 : List UInt8 := dkwX4_number_1 ++ dktX4_number_2
def dkwX4_number_0 : List UInt8 := [3, 61, 3, 62, 42, 180, 0, 234, 154, 0, 59, 29, 27, 162, 0, 54, 42, 182, 1, 51, 16, 48, 16, 57]
abbrev dktX4_number_0 : List UInt8 := dkwX4_number_0 ++ dktX4_number_1
theorem dksX4_number_0 : cX4_number.data.toList.drop 0 = dktX4_number_0 := by decide +kernel
theorem dksX4_number_1 : cX4_number.data.toList.drop 24 = dktX4_number_1 := dk_seg dksX4_number_0 24 rfl rfl
theorem dksX4_number_2 : cX4_number.data.toList.drop 47 = dktX4_number_2 := dk_seg dksX4_number_1 23 rfl rfl
theorem dksX4_number_3 : cX4_number.data.toList.drop 69 = dktX4_number_3 := dk_seg dksX4_number_2 22 rfl rfl
theorem dX4_number_0 : decode cX4_number 0 = .ok (.iconst 0, 1) := dk_3 (dk_at dksX4_number_0 0 rfl rfl)
theorem dX4_number_1 : decode cX4_number 1 = .ok (.istore_n 2, 1) := dk_61 (dk_at dksX4_number_0 1 rfl rfl)
theorem dX4_number_2 : decode cX4_number 2 = .ok (.iconst 0, 1) := dk_3 (dk_at dksX4_number_0 2 rfl rfl)
theorem dX4_number_3 : decode cX4_number 3 = .ok (.istore_n 3, 1) := dk_62 (dk_at dksX4_number_0 3 rfl rfl)
theorem dX4_number_4 : decode cX4_number 4 = .ok (.aload_n 0, 1) := dk_42 (dk_at dksX4_number_0 4 rfl rfl)
theorem dX4_number_5 : decode cX4_number 5 = .ok (.getfield 234, 3) := dk_180 0 234 (dk_at dksX4_number_0 5 rfl rfl)
theorem dX4_number_8 : decode cX4_number 8 = .ok (.ifCond .ne 59, 3) := dk_154 0 59 (dk_at dksX4_number_0 8 rfl rfl)
theorem dX4_number_11 : decode cX4_number 11 = .ok (.iload_n 3, 1) := dk_29 (dk_at dksX4_number_0 11 rfl rfl)
theorem dX4_number_12 : decode cX4_number 12 = .ok (.iload_n 1, 1) := dk_27 (dk_at dksX4_number_0 12 rfl rfl)
theorem dX4_number_13 : decode cX4_number 13 = .ok (.if_icmp .ge 54, 3) := dk_162 0 54 (dk_at dksX4_number_0 13 rfl rfl)
theorem dX4_number_16 : decode cX4_number 16 = .ok (.aload_n 0, 1) := dk_42 (dk_at dksX4_number_0 16 rfl rfl)
theorem dX4_number_17 : decode cX4_number 17 = .ok (.invokevirtual 307, 3) := dk_182 1 51 (dk_at dksX4_number_0 17 rfl rfl)
theorem dX4_number_20 : decode cX4_number 20 = .ok (.bipush 48, 2) := dk_16 48 (dk_at dksX4_number_0 20 rfl rfl)
theorem dX4_number_22 : decode cX4_number 22 = .ok (.bipush 57, 2) := dk_16 57 (dk_at dksX4_number_0 22 rfl rfl)
theorem dX4_number_24 : decode cX4_number 24 = .ok (.invokestatic 209, 3) := dk_184 0 209 (dk_at dksX4_number_1 0 rfl rfl)
theorem dX4_number_27 : decode cX4_number 27 = .ok (.ifCond .eq 40, 3) := dk_153 0 40 (dk_at dksX4_number_1 3 rfl rfl)
theorem dX4_number_30 : decode cX4_number 30 = .ok (.iload_n 3, 1) := dk_29 (dk_at dksX4_number_1 6 rfl rfl)
theorem dX4_number_31 : decode cX4_number 31 = .ok (.ifCond .eq 7, 3) := dk_153 0 7 (dk_at dksX4_number_1 7 rfl rfl)
theorem dX4_number_34 : decode cX4_number 34 = .ok (.iload_n 2, 1) := dk_28 (dk_at dksX4_number_1 10 rfl rfl)
theorem dX4_number_35 : decode cX4_number 35 = .ok (.ifCond .le 32, 3) := dk_158 0 32 (dk_at dksX4_number_1 11 rfl rfl)
theorem dX4_number_38 : decode cX4_number 38 = .ok (.bipush 10, 2) := dk_16 10 (dk_at dksX4_number_1 14 rfl rfl)
theorem dX4_number_40 : decode cX4_number 40 = .ok (.iload_n 2, 1) := dk_28 (dk_at dksX4_number_1 16 rfl rfl)
theorem dX4_number_41 : decode cX4_number 41 = .ok (.imul, 1) := dk_104 (dk_at dksX4_number_1 17 rfl rfl)
theorem dX4_number_42 : decode cX4_number 42 = .ok (.aload_n 0, 1) := dk_42 (dk_at dksX4_number_1 18 rfl rfl)
theorem dX4_number_43 : decode cX4_number 43 = .ok (.invokevirtual 307, 3) := dk_182 1 51 (dk_at dksX4_number_1 19 rfl rfl)
theorem dX4_number_46 : decode cX4_number 46 = .ok (.iadd, 1) := dk_96 (dk_at dksX4_number_1 22 rfl rfl)
theorem dX4_number_47 : decode cX4_number 47 = .ok (.bipush 48, 2) := dk_16 48 (dk_at dksX4_number_2 0 rfl rfl)
theorem dX4_number_49 : decode cX4_number 49 = .ok (.isub, 1) := dk_100 (dk_at dksX4_number_2 2 rfl rfl)
theorem dX4_number_50 : decode cX4_number 50 = .ok (.istore_n 2, 1) := dk_61 (dk_at dksX4_number_2 3 rfl rfl)
theorem dX4_number_51 : decode cX4_number 51 = .ok (.aload_n 0, 1) := dk_42 (dk_at dksX4_number_2 4 rfl rfl)
theorem dX4_number_52 : decode cX4_number 52 = .ok (.dup, 1) := dk_89 (dk_at dksX4_number_2 5 rfl rfl)
theorem dX4_number_53 : decode cX4_number 53 = .ok (.getfield 225, 3) := dk_180 0 225 (dk_at dksX4_number_2 6 rfl rfl)
theorem dX4_number_56 : decode cX4_number 56 = .ok (.iconst 1, 1) := dk_4 (dk_at dksX4_number_2 9 rfl rfl)
theorem dX4_number_57 : decode cX4_number 57 = .ok (.iadd, 1) := dk_96 (dk_at dksX4_number_2 10 rfl rfl)
theorem dX4_number_58 : decode cX4_number 58 = .ok (.putfield 225, 3) := dk_181 0 225 (dk_at dksX4_number_2 11 rfl rfl)
theorem dX4_number_61 : decode cX4_number 61 = .ok (.iinc 3 1, 3) := dk_132 3 1 (dk_at dksX4_number_2 14 rfl rfl)
theorem dX4_number_64 : decode cX4_number 64 = .ok (.goto (-60), 3) := dk_167 255 196 (dk_at dksX4_number_2 17 rfl rfl)
theorem dX4_number_67 : decode cX4_number 67 = .ok (.aload_n 0, 1) := dk_42 (dk_at dksX4_number_2 20 rfl rfl)
theorem dX4_number_68 : decode cX4_number 68 = .ok (.aload_n 0, 1) := dk_42 (dk_at dksX4_number_2 21 rfl rfl)
theorem dX4_number_69 : decode cX4_number 69 = .ok (.getfield 234, 3) := dk_180 0 234 (dk_at dksX4_number_3 0 rfl rfl)
theorem dX4_number_72 : decode cX4_number 72 = .ok (.ifCond .ne 7, 3) := dk_154 0 7 (dk_at dksX4_number_3 3 rfl rfl)
theorem dX4_number_75 : decode cX4_number 75 = .ok (.iload_n 3, 1) := dk_29 (dk_at dksX4_number_3 6 rfl rfl)
theorem dX4_number_76 : decode cX4_number 76 = .ok (.ifCond .ne 7, 3) := dk_154 0 7 (dk_at dksX4_number_3 7 rfl rfl)
theorem dX4_number_79 : decode cX4_number 79 = .ok (.iconst 1, 1) := dk_4 (dk_at dksX4_number_3 10 rfl rfl)
theorem dX4_number_80 : decode cX4_number 80 = .ok (.goto 4, 3) := dk_167 0 4 (dk_at dksX4_number_3 11 rfl rfl)
theorem dX4_number_83 : decode cX4_number 83 = .ok (.iconst 0, 1) := dk_3 (dk_at dksX4_number_3 14 rfl rfl)
theorem dX4_number_84 : decode cX4_number 84 = .ok (.putfield 234, 3) := dk_181 0 234 (dk_at dksX4_number_3 15 rfl rfl)
theorem dX4_number_87 : decode cX4_number 87 = .ok (.iload_n 2, 1) := dk_28 (dk_at dksX4_number_3 18 rfl rfl)
theorem dX4_number_88 : decode cX4_number 88 = .ok (.ireturn, 1) := dk_172 (dk_at dksX4_number_3 19 rfl rfl)
abbrev cX4_fails : ByteArray := prog_14_method_3_code
def yX4_fails : MethodName := ⟨RX4, "fails", "(I)I"⟩
def dkwX4_fails_0 : List UInt8 := [42, 27, 181, 0, 84, 3, 172]
abbrev dktX4_fails_0 : List UInt8 := dkwX4_fails_0 ++ []
theorem dksX4_fails_0 : cX4_fails.data.toList.drop 0 = dktX4_fails_0 := by decide +kernel
theorem dX4_fails_0 : decode cX4_fails 0 = .ok (.aload_n 0, 1) := dk_42 (dk_at dksX4_fails_0 0 rfl rfl)
theorem dX4_fails_1 : decode cX4_fails 1 = .ok (.iload_n 1, 1) := dk_27 (dk_at dksX4_fails_0 1 rfl rfl)
theorem dX4_fails_2 : decode cX4_fails 2 = .ok (.putfield 84, 3) := dk_181 0 84 (dk_at dksX4_fails_0 2 rfl rfl)
theorem dX4_fails_5 : decode cX4_fails 5 = .ok (.iconst 0, 1) := dk_3 (dk_at dksX4_fails_0 5 rfl rfl)
theorem dX4_fails_6 : decode cX4_fails 6 = .ok (.ireturn, 1) := dk_172 (dk_at dksX4_fails_0 6 rfl rfl)
abbrev cX4_addsRule : ByteArray := prog_14_method_38_code
def yX4_addsRule : MethodName := ⟨RX4, "addsRule", "()I"⟩
def dkwX4_addsRule_2 : List UInt8 := [79, 132, 2, 1, 167, 255, 227, 42, 180, 0, 7, 3, 27, 4, 96, 79, 42, 27, 182, 0, 206, 172]
abbrev dktX4_addsRule_2 : List UInt8 := dkwX4_addsRule_2 ++ []
def dkwX4_addsRule_1 : List UInt8 := [16, 11, 162, 0, 29, 42, 180, 0, 7, 16, 7, 16, 11, 27, 104, 96, 28, 96, 42, 180, 0, 39, 28, 46]
abbrev dktX4_addsRule_1 : List UInt8 := dkwX4_addsRule_1 ++ dktX4_addsRule_2
def dkwX4_addsRule_0 : List UInt8 := [42, 180, 0, 7, 3, 46, 60, 27, 16, 8, 160, 0, 11, 42, 4, 16, 8, 182, 0, 203, 172, 3, 61, 28]
abbrev dktX4_addsRule_0 : List UInt8 := dkwX4_addsRule_0 ++ dktX4_addsRule_1
theorem dksX4_addsRule_0 : cX4_addsRule.data.toList.drop 0 = dktX4_addsRule_0 := by decide +kernel
theorem dksX4_addsRule_1 : cX4_addsRule.data.toList.drop 24 = dktX4_addsRule_1 := dk_seg dksX4_addsRule_0 24 rfl rfl
theorem dksX4_addsRule_2 : cX4_addsRule.data.toList.drop 48 = dktX4_addsRule_2 := dk_seg dksX4_addsRule_1 24 rfl rfl
theorem dX4_addsRule_0 : decode cX4_addsRule 0 = .ok (.aload_n 0, 1) := dk_42 (dk_at dksX4_addsRule_0 0 rfl rfl)
theorem dX4_addsRule_1 : decode cX4_addsRule 1 = .ok (.getfield 7, 3) := dk_180 0 7 (dk_at dksX4_addsRule_0 1 rfl rfl)
theorem dX4_addsRule_4 : decode cX4_addsRule 4 = .ok (.iconst 0, 1) := dk_3 (dk_at dksX4_addsRule_0 4 rfl rfl)
theorem dX4_addsRule_5 : decode cX4_addsRule 5 = .ok (.iaload, 1) := dk_46 (dk_at dksX4_addsRule_0 5 rfl rfl)
theorem dX4_addsRule_6 : decode cX4_addsRule 6 = .ok (.istore_n 1, 1) := dk_60 (dk_at dksX4_addsRule_0 6 rfl rfl)
theorem dX4_addsRule_7 : decode cX4_addsRule 7 = .ok (.iload_n 1, 1) := dk_27 (dk_at dksX4_addsRule_0 7 rfl rfl)
theorem dX4_addsRule_8 : decode cX4_addsRule 8 = .ok (.bipush 8, 2) := dk_16 8 (dk_at dksX4_addsRule_0 8 rfl rfl)
theorem dX4_addsRule_10 : decode cX4_addsRule 10 = .ok (.if_icmp .ne 11, 3) := dk_160 0 11 (dk_at dksX4_addsRule_0 10 rfl rfl)
theorem dX4_addsRule_13 : decode cX4_addsRule 13 = .ok (.aload_n 0, 1) := dk_42 (dk_at dksX4_addsRule_0 13 rfl rfl)
theorem dX4_addsRule_14 : decode cX4_addsRule 14 = .ok (.iconst 1, 1) := dk_4 (dk_at dksX4_addsRule_0 14 rfl rfl)
theorem dX4_addsRule_15 : decode cX4_addsRule 15 = .ok (.bipush 8, 2) := dk_16 8 (dk_at dksX4_addsRule_0 15 rfl rfl)
theorem dX4_addsRule_17 : decode cX4_addsRule 17 = .ok (.invokevirtual 203, 3) := dk_182 0 203 (dk_at dksX4_addsRule_0 17 rfl rfl)
theorem dX4_addsRule_20 : decode cX4_addsRule 20 = .ok (.ireturn, 1) := dk_172 (dk_at dksX4_addsRule_0 20 rfl rfl)
theorem dX4_addsRule_21 : decode cX4_addsRule 21 = .ok (.iconst 0, 1) := dk_3 (dk_at dksX4_addsRule_0 21 rfl rfl)
theorem dX4_addsRule_22 : decode cX4_addsRule 22 = .ok (.istore_n 2, 1) := dk_61 (dk_at dksX4_addsRule_0 22 rfl rfl)
theorem dX4_addsRule_23 : decode cX4_addsRule 23 = .ok (.iload_n 2, 1) := dk_28 (dk_at dksX4_addsRule_0 23 rfl rfl)
theorem dX4_addsRule_24 : decode cX4_addsRule 24 = .ok (.bipush 11, 2) := dk_16 11 (dk_at dksX4_addsRule_1 0 rfl rfl)
theorem dX4_addsRule_26 : decode cX4_addsRule 26 = .ok (.if_icmp .ge 29, 3) := dk_162 0 29 (dk_at dksX4_addsRule_1 2 rfl rfl)
theorem dX4_addsRule_29 : decode cX4_addsRule 29 = .ok (.aload_n 0, 1) := dk_42 (dk_at dksX4_addsRule_1 5 rfl rfl)
theorem dX4_addsRule_30 : decode cX4_addsRule 30 = .ok (.getfield 7, 3) := dk_180 0 7 (dk_at dksX4_addsRule_1 6 rfl rfl)
theorem dX4_addsRule_33 : decode cX4_addsRule 33 = .ok (.bipush 7, 2) := dk_16 7 (dk_at dksX4_addsRule_1 9 rfl rfl)
theorem dX4_addsRule_35 : decode cX4_addsRule 35 = .ok (.bipush 11, 2) := dk_16 11 (dk_at dksX4_addsRule_1 11 rfl rfl)
theorem dX4_addsRule_37 : decode cX4_addsRule 37 = .ok (.iload_n 1, 1) := dk_27 (dk_at dksX4_addsRule_1 13 rfl rfl)
theorem dX4_addsRule_38 : decode cX4_addsRule 38 = .ok (.imul, 1) := dk_104 (dk_at dksX4_addsRule_1 14 rfl rfl)
theorem dX4_addsRule_39 : decode cX4_addsRule 39 = .ok (.iadd, 1) := dk_96 (dk_at dksX4_addsRule_1 15 rfl rfl)
theorem dX4_addsRule_40 : decode cX4_addsRule 40 = .ok (.iload_n 2, 1) := dk_28 (dk_at dksX4_addsRule_1 16 rfl rfl)
theorem dX4_addsRule_41 : decode cX4_addsRule 41 = .ok (.iadd, 1) := dk_96 (dk_at dksX4_addsRule_1 17 rfl rfl)
theorem dX4_addsRule_42 : decode cX4_addsRule 42 = .ok (.aload_n 0, 1) := dk_42 (dk_at dksX4_addsRule_1 18 rfl rfl)
theorem dX4_addsRule_43 : decode cX4_addsRule 43 = .ok (.getfield 39, 3) := dk_180 0 39 (dk_at dksX4_addsRule_1 19 rfl rfl)
theorem dX4_addsRule_46 : decode cX4_addsRule 46 = .ok (.iload_n 2, 1) := dk_28 (dk_at dksX4_addsRule_1 22 rfl rfl)
theorem dX4_addsRule_47 : decode cX4_addsRule 47 = .ok (.iaload, 1) := dk_46 (dk_at dksX4_addsRule_1 23 rfl rfl)
theorem dX4_addsRule_48 : decode cX4_addsRule 48 = .ok (.iastore, 1) := dk_79 (dk_at dksX4_addsRule_2 0 rfl rfl)
theorem dX4_addsRule_49 : decode cX4_addsRule 49 = .ok (.iinc 2 1, 3) := dk_132 2 1 (dk_at dksX4_addsRule_2 1 rfl rfl)
theorem dX4_addsRule_52 : decode cX4_addsRule 52 = .ok (.goto (-29), 3) := dk_167 255 227 (dk_at dksX4_addsRule_2 4 rfl rfl)
theorem dX4_addsRule_55 : decode cX4_addsRule 55 = .ok (.aload_n 0, 1) := dk_42 (dk_at dksX4_addsRule_2 7 rfl rfl)
theorem dX4_addsRule_56 : decode cX4_addsRule 56 = .ok (.getfield 7, 3) := dk_180 0 7 (dk_at dksX4_addsRule_2 8 rfl rfl)
theorem dX4_addsRule_59 : decode cX4_addsRule 59 = .ok (.iconst 0, 1) := dk_3 (dk_at dksX4_addsRule_2 11 rfl rfl)
theorem dX4_addsRule_60 : decode cX4_addsRule 60 = .ok (.iload_n 1, 1) := dk_27 (dk_at dksX4_addsRule_2 12 rfl rfl)
theorem dX4_addsRule_61 : decode cX4_addsRule 61 = .ok (.iconst 1, 1) := dk_4 (dk_at dksX4_addsRule_2 13 rfl rfl)
theorem dX4_addsRule_62 : decode cX4_addsRule 62 = .ok (.iadd, 1) := dk_96 (dk_at dksX4_addsRule_2 14 rfl rfl)
theorem dX4_addsRule_63 : decode cX4_addsRule 63 = .ok (.iastore, 1) := dk_79 (dk_at dksX4_addsRule_2 15 rfl rfl)
theorem dX4_addsRule_64 : decode cX4_addsRule 64 = .ok (.aload_n 0, 1) := dk_42 (dk_at dksX4_addsRule_2 16 rfl rfl)
theorem dX4_addsRule_65 : decode cX4_addsRule 65 = .ok (.iload_n 1, 1) := dk_27 (dk_at dksX4_addsRule_2 17 rfl rfl)
theorem dX4_addsRule_66 : decode cX4_addsRule 66 = .ok (.invokevirtual 206, 3) := dk_182 0 206 (dk_at dksX4_addsRule_2 18 rfl rfl)
theorem dX4_addsRule_69 : decode cX4_addsRule 69 = .ok (.ireturn, 1) := dk_172 (dk_at dksX4_addsRule_2 21 rfl rfl)
abbrev cX4_refused : ByteArray := prog_14_method_7_code
def yX4_refused : MethodName := ⟨RX4, "refused", "(II)I"⟩
def dkwX4_refused_0 : List UInt8 := [42, 28, 181, 0, 91, 27, 172]
abbrev dktX4_refused_0 : List UInt8 := dkwX4_refused_0 ++ []
theorem dksX4_refused_0 : cX4_refused.data.toList.drop 0 = dktX4_refused_0 := by decide +kernel
theorem dX4_refused_0 : decode cX4_refused 0 = .ok (.aload_n 0, 1) := dk_42 (dk_at dksX4_refused_0 0 rfl rfl)
theorem dX4_refused_1 : decode cX4_refused 1 = .ok (.iload_n 2, 1) := dk_28 (dk_at dksX4_refused_0 1 rfl rfl)
theorem dX4_refused_2 : decode cX4_refused 2 = .ok (.putfield 91, 3) := dk_181 0 91 (dk_at dksX4_refused_0 2 rfl rfl)
theorem dX4_refused_5 : decode cX4_refused 5 = .ok (.iload_n 1, 1) := dk_27 (dk_at dksX4_refused_0 5 rfl rfl)
theorem dX4_refused_6 : decode cX4_refused 6 = .ok (.ireturn, 1) := dk_172 (dk_at dksX4_refused_0 6 rfl rfl)
abbrev cX4_done : ByteArray := prog_14_method_8_code
def yX4_done : MethodName := ⟨RX4, "done", "(I)I"⟩
def dkwX4_done_0 : List UInt8 := [42, 27, 181, 0, 94, 3, 172]
abbrev dktX4_done_0 : List UInt8 := dkwX4_done_0 ++ []
theorem dksX4_done_0 : cX4_done.data.toList.drop 0 = dktX4_done_0 := by decide +kernel
theorem dX4_done_0 : decode cX4_done 0 = .ok (.aload_n 0, 1) := dk_42 (dk_at dksX4_done_0 0 rfl rfl)
theorem dX4_done_1 : decode cX4_done 1 = .ok (.iload_n 1, 1) := dk_27 (dk_at dksX4_done_0 1 rfl rfl)
theorem dX4_done_2 : decode cX4_done 2 = .ok (.putfield 94, 3) := dk_181 0 94 (dk_at dksX4_done_0 2 rfl rfl)
theorem dX4_done_5 : decode cX4_done 5 = .ok (.iconst 0, 1) := dk_3 (dk_at dksX4_done_0 5 rfl rfl)
theorem dX4_done_6 : decode cX4_done 6 = .ok (.ireturn, 1) := dk_172 (dk_at dksX4_done_0 6 rfl rfl)
abbrev cX4_ends : ByteArray := prog_14_method_9_code
def yX4_ends : MethodName := ⟨RX4, "ends", "(II)I"⟩
def dkwX4_ends_1 : List UInt8 := [42, 27, 181, 0, 104, 42, 42, 180, 0, 91, 181, 0, 107, 42, 28, 182, 0, 101, 172]
abbrev dktX4_ends_1 : List UInt8 := dkwX4_ends_1 ++ []
def dkwX4_ends_0 : List UInt8 := [27, 154, 0, 12, 42, 42, 180, 0, 94, 182, 0, 97, 172, 27, 156, 0, 10, 42, 27, 116, 182, 0, 101, 172]
abbrev dktX4_ends_0 : List UInt8 := dkwX4_ends_0 ++ dktX4_ends_1
theorem dksX4_ends_0 : cX4_ends.data.toList.drop 0 = dktX4_ends_0 := by decide +kernel
theorem dksX4_ends_1 : cX4_ends.data.toList.drop 24 = dktX4_ends_1 := dk_seg dksX4_ends_0 24 rfl rfl
theorem dX4_ends_0 : decode cX4_ends 0 = .ok (.iload_n 1, 1) := dk_27 (dk_at dksX4_ends_0 0 rfl rfl)
theorem dX4_ends_1 : decode cX4_ends 1 = .ok (.ifCond .ne 12, 3) := dk_154 0 12 (dk_at dksX4_ends_0 1 rfl rfl)
theorem dX4_ends_4 : decode cX4_ends 4 = .ok (.aload_n 0, 1) := dk_42 (dk_at dksX4_ends_0 4 rfl rfl)
theorem dX4_ends_5 : decode cX4_ends 5 = .ok (.aload_n 0, 1) := dk_42 (dk_at dksX4_ends_0 5 rfl rfl)
theorem dX4_ends_6 : decode cX4_ends 6 = .ok (.getfield 94, 3) := dk_180 0 94 (dk_at dksX4_ends_0 6 rfl rfl)
theorem dX4_ends_9 : decode cX4_ends 9 = .ok (.invokevirtual 97, 3) := dk_182 0 97 (dk_at dksX4_ends_0 9 rfl rfl)
theorem dX4_ends_12 : decode cX4_ends 12 = .ok (.ireturn, 1) := dk_172 (dk_at dksX4_ends_0 12 rfl rfl)
theorem dX4_ends_13 : decode cX4_ends 13 = .ok (.iload_n 1, 1) := dk_27 (dk_at dksX4_ends_0 13 rfl rfl)
theorem dX4_ends_14 : decode cX4_ends 14 = .ok (.ifCond .ge 10, 3) := dk_156 0 10 (dk_at dksX4_ends_0 14 rfl rfl)
theorem dX4_ends_17 : decode cX4_ends 17 = .ok (.aload_n 0, 1) := dk_42 (dk_at dksX4_ends_0 17 rfl rfl)
theorem dX4_ends_18 : decode cX4_ends 18 = .ok (.iload_n 1, 1) := dk_27 (dk_at dksX4_ends_0 18 rfl rfl)
theorem dX4_ends_19 : decode cX4_ends 19 = .ok (.ineg, 1) := dk_116 (dk_at dksX4_ends_0 19 rfl rfl)
theorem dX4_ends_20 : decode cX4_ends 20 = .ok (.invokevirtual 101, 3) := dk_182 0 101 (dk_at dksX4_ends_0 20 rfl rfl)
theorem dX4_ends_23 : decode cX4_ends 23 = .ok (.ireturn, 1) := dk_172 (dk_at dksX4_ends_0 23 rfl rfl)
theorem dX4_ends_24 : decode cX4_ends 24 = .ok (.aload_n 0, 1) := dk_42 (dk_at dksX4_ends_1 0 rfl rfl)
theorem dX4_ends_25 : decode cX4_ends 25 = .ok (.iload_n 1, 1) := dk_27 (dk_at dksX4_ends_1 1 rfl rfl)
theorem dX4_ends_26 : decode cX4_ends 26 = .ok (.putfield 104, 3) := dk_181 0 104 (dk_at dksX4_ends_1 2 rfl rfl)
theorem dX4_ends_29 : decode cX4_ends 29 = .ok (.aload_n 0, 1) := dk_42 (dk_at dksX4_ends_1 5 rfl rfl)
theorem dX4_ends_30 : decode cX4_ends 30 = .ok (.aload_n 0, 1) := dk_42 (dk_at dksX4_ends_1 6 rfl rfl)
theorem dX4_ends_31 : decode cX4_ends 31 = .ok (.getfield 91, 3) := dk_180 0 91 (dk_at dksX4_ends_1 7 rfl rfl)
theorem dX4_ends_34 : decode cX4_ends 34 = .ok (.putfield 107, 3) := dk_181 0 107 (dk_at dksX4_ends_1 10 rfl rfl)
theorem dX4_ends_37 : decode cX4_ends 37 = .ok (.aload_n 0, 1) := dk_42 (dk_at dksX4_ends_1 13 rfl rfl)
theorem dX4_ends_38 : decode cX4_ends 38 = .ok (.iload_n 2, 1) := dk_28 (dk_at dksX4_ends_1 14 rfl rfl)
theorem dX4_ends_39 : decode cX4_ends 39 = .ok (.invokevirtual 101, 3) := dk_182 0 101 (dk_at dksX4_ends_1 15 rfl rfl)
theorem dX4_ends_42 : decode cX4_ends 42 = .ok (.ireturn, 1) := dk_172 (dk_at dksX4_ends_1 18 rfl rfl)
abbrev cX4_changed : ByteArray := prog_14_method_6_code
def yX4_changed : MethodName := ⟨RX4, "changed", "(I)I"⟩
def dkwX4_changed_3 : List UInt8 := [180, 0, 87, 4, 100, 104, 28, 96, 42, 180, 0, 13, 28, 46, 79, 132, 2, 1, 167, 255, 223, 27, 172]
abbrev dktX4_changed_3 : List UInt8 := dkwX4_changed_3 ++ []
def dkwX4_changed_2 : List UInt8 := [4, 96, 181, 0, 87, 3, 61, 28, 17, 53, 107, 162, 0, 32, 42, 180, 0, 23, 17, 53, 107, 42]
abbrev dktX4_changed_2 : List UInt8 := dkwX4_changed_2 ++ dktX4_changed_3
def dkwX4_changed_1 : List UInt8 := [180, 0, 23, 28, 17, 53, 107, 96, 46, 79, 132, 2, 1, 167, 255, 231, 167, 0, 13, 42, 89, 180, 0, 87]
abbrev dktX4_changed_1 : List UInt8 := dkwX4_changed_1 ++ dktX4_changed_2
def dkwX4_changed_0 : List UInt8 := [42, 180, 0, 87, 16, 8, 160, 0, 36, 3, 61, 28, 18, 90, 162, 0, 25, 42, 180, 0, 23, 28, 42]
abbrev dktX4_changed_0 : List UInt8 := dkwX4_changed_0 ++ dktX4_changed_1
theorem dksX4_changed_0 : cX4_changed.data.toList.drop 0 = dktX4_changed_0 := by decide +kernel
theorem dksX4_changed_1 : cX4_changed.data.toList.drop 23 = dktX4_changed_1 := dk_seg dksX4_changed_0 23 rfl rfl
theorem dksX4_changed_2 : cX4_changed.data.toList.drop 47 = dktX4_changed_2 := dk_seg dksX4_changed_1 24 rfl rfl
theorem dksX4_changed_3 : cX4_changed.data.toList.drop 69 = dktX4_changed_3 := dk_seg dksX4_changed_2 22 rfl rfl
theorem dX4_changed_0 : decode cX4_changed 0 = .ok (.aload_n 0, 1) := dk_42 (dk_at dksX4_changed_0 0 rfl rfl)
theorem dX4_changed_1 : decode cX4_changed 1 = .ok (.getfield 87, 3) := dk_180 0 87 (dk_at dksX4_changed_0 1 rfl rfl)
theorem dX4_changed_4 : decode cX4_changed 4 = .ok (.bipush 8, 2) := dk_16 8 (dk_at dksX4_changed_0 4 rfl rfl)
theorem dX4_changed_6 : decode cX4_changed 6 = .ok (.if_icmp .ne 36, 3) := dk_160 0 36 (dk_at dksX4_changed_0 6 rfl rfl)
theorem dX4_changed_9 : decode cX4_changed 9 = .ok (.iconst 0, 1) := dk_3 (dk_at dksX4_changed_0 9 rfl rfl)
theorem dX4_changed_10 : decode cX4_changed 10 = .ok (.istore_n 2, 1) := dk_61 (dk_at dksX4_changed_0 10 rfl rfl)
theorem dX4_changed_11 : decode cX4_changed 11 = .ok (.iload_n 2, 1) := dk_28 (dk_at dksX4_changed_0 11 rfl rfl)
theorem dX4_changed_12 : decode cX4_changed 12 = .ok (.ldc 90, 2) := dk_18 90 (dk_at dksX4_changed_0 12 rfl rfl)
theorem dX4_changed_14 : decode cX4_changed 14 = .ok (.if_icmp .ge 25, 3) := dk_162 0 25 (dk_at dksX4_changed_0 14 rfl rfl)
theorem dX4_changed_17 : decode cX4_changed 17 = .ok (.aload_n 0, 1) := dk_42 (dk_at dksX4_changed_0 17 rfl rfl)
theorem dX4_changed_18 : decode cX4_changed 18 = .ok (.getfield 23, 3) := dk_180 0 23 (dk_at dksX4_changed_0 18 rfl rfl)
theorem dX4_changed_21 : decode cX4_changed 21 = .ok (.iload_n 2, 1) := dk_28 (dk_at dksX4_changed_0 21 rfl rfl)
theorem dX4_changed_22 : decode cX4_changed 22 = .ok (.aload_n 0, 1) := dk_42 (dk_at dksX4_changed_0 22 rfl rfl)
theorem dX4_changed_23 : decode cX4_changed 23 = .ok (.getfield 23, 3) := dk_180 0 23 (dk_at dksX4_changed_1 0 rfl rfl)
theorem dX4_changed_26 : decode cX4_changed 26 = .ok (.iload_n 2, 1) := dk_28 (dk_at dksX4_changed_1 3 rfl rfl)
theorem dX4_changed_27 : decode cX4_changed 27 = .ok (.sipush 13675, 3) := dk_17 53 107 (dk_at dksX4_changed_1 4 rfl rfl)
theorem dX4_changed_30 : decode cX4_changed 30 = .ok (.iadd, 1) := dk_96 (dk_at dksX4_changed_1 7 rfl rfl)
theorem dX4_changed_31 : decode cX4_changed 31 = .ok (.iaload, 1) := dk_46 (dk_at dksX4_changed_1 8 rfl rfl)
theorem dX4_changed_32 : decode cX4_changed 32 = .ok (.iastore, 1) := dk_79 (dk_at dksX4_changed_1 9 rfl rfl)
theorem dX4_changed_33 : decode cX4_changed 33 = .ok (.iinc 2 1, 3) := dk_132 2 1 (dk_at dksX4_changed_1 10 rfl rfl)
theorem dX4_changed_36 : decode cX4_changed 36 = .ok (.goto (-25), 3) := dk_167 255 231 (dk_at dksX4_changed_1 13 rfl rfl)
theorem dX4_changed_39 : decode cX4_changed 39 = .ok (.goto 13, 3) := dk_167 0 13 (dk_at dksX4_changed_1 16 rfl rfl)
theorem dX4_changed_42 : decode cX4_changed 42 = .ok (.aload_n 0, 1) := dk_42 (dk_at dksX4_changed_1 19 rfl rfl)
theorem dX4_changed_43 : decode cX4_changed 43 = .ok (.dup, 1) := dk_89 (dk_at dksX4_changed_1 20 rfl rfl)
theorem dX4_changed_44 : decode cX4_changed 44 = .ok (.getfield 87, 3) := dk_180 0 87 (dk_at dksX4_changed_1 21 rfl rfl)
theorem dX4_changed_47 : decode cX4_changed 47 = .ok (.iconst 1, 1) := dk_4 (dk_at dksX4_changed_2 0 rfl rfl)
theorem dX4_changed_48 : decode cX4_changed 48 = .ok (.iadd, 1) := dk_96 (dk_at dksX4_changed_2 1 rfl rfl)
theorem dX4_changed_49 : decode cX4_changed 49 = .ok (.putfield 87, 3) := dk_181 0 87 (dk_at dksX4_changed_2 2 rfl rfl)
theorem dX4_changed_52 : decode cX4_changed 52 = .ok (.iconst 0, 1) := dk_3 (dk_at dksX4_changed_2 5 rfl rfl)
theorem dX4_changed_53 : decode cX4_changed 53 = .ok (.istore_n 2, 1) := dk_61 (dk_at dksX4_changed_2 6 rfl rfl)
theorem dX4_changed_54 : decode cX4_changed 54 = .ok (.iload_n 2, 1) := dk_28 (dk_at dksX4_changed_2 7 rfl rfl)
theorem dX4_changed_55 : decode cX4_changed 55 = .ok (.sipush 13675, 3) := dk_17 53 107 (dk_at dksX4_changed_2 8 rfl rfl)
theorem dX4_changed_58 : decode cX4_changed 58 = .ok (.if_icmp .ge 32, 3) := dk_162 0 32 (dk_at dksX4_changed_2 11 rfl rfl)
theorem dX4_changed_61 : decode cX4_changed 61 = .ok (.aload_n 0, 1) := dk_42 (dk_at dksX4_changed_2 14 rfl rfl)
theorem dX4_changed_62 : decode cX4_changed 62 = .ok (.getfield 23, 3) := dk_180 0 23 (dk_at dksX4_changed_2 15 rfl rfl)
theorem dX4_changed_65 : decode cX4_changed 65 = .ok (.sipush 13675, 3) := dk_17 53 107 (dk_at dksX4_changed_2 18 rfl rfl)
theorem dX4_changed_68 : decode cX4_changed 68 = .ok (.aload_n 0, 1) := dk_42 (dk_at dksX4_changed_2 21 rfl rfl)
theorem dX4_changed_69 : decode cX4_changed 69 = .ok (.getfield 87, 3) := dk_180 0 87 (dk_at dksX4_changed_3 0 rfl rfl)
theorem dX4_changed_72 : decode cX4_changed 72 = .ok (.iconst 1, 1) := dk_4 (dk_at dksX4_changed_3 3 rfl rfl)
theorem dX4_changed_73 : decode cX4_changed 73 = .ok (.isub, 1) := dk_100 (dk_at dksX4_changed_3 4 rfl rfl)
theorem dX4_changed_74 : decode cX4_changed 74 = .ok (.imul, 1) := dk_104 (dk_at dksX4_changed_3 5 rfl rfl)
theorem dX4_changed_75 : decode cX4_changed 75 = .ok (.iload_n 2, 1) := dk_28 (dk_at dksX4_changed_3 6 rfl rfl)
theorem dX4_changed_76 : decode cX4_changed 76 = .ok (.iadd, 1) := dk_96 (dk_at dksX4_changed_3 7 rfl rfl)
theorem dX4_changed_77 : decode cX4_changed 77 = .ok (.aload_n 0, 1) := dk_42 (dk_at dksX4_changed_3 8 rfl rfl)
theorem dX4_changed_78 : decode cX4_changed 78 = .ok (.getfield 13, 3) := dk_180 0 13 (dk_at dksX4_changed_3 9 rfl rfl)
theorem dX4_changed_81 : decode cX4_changed 81 = .ok (.iload_n 2, 1) := dk_28 (dk_at dksX4_changed_3 12 rfl rfl)
theorem dX4_changed_82 : decode cX4_changed 82 = .ok (.iaload, 1) := dk_46 (dk_at dksX4_changed_3 13 rfl rfl)
theorem dX4_changed_83 : decode cX4_changed 83 = .ok (.iastore, 1) := dk_79 (dk_at dksX4_changed_3 14 rfl rfl)
theorem dX4_changed_84 : decode cX4_changed 84 = .ok (.iinc 2 1, 3) := dk_132 2 1 (dk_at dksX4_changed_3 15 rfl rfl)
theorem dX4_changed_87 : decode cX4_changed 87 = .ok (.goto (-33), 3) := dk_167 255 223 (dk_at dksX4_changed_3 18 rfl rfl)
theorem dX4_changed_90 : decode cX4_changed 90 = .ok (.iload_n 1, 1) := dk_27 (dk_at dksX4_changed_3 21 rfl rfl)
theorem dX4_changed_91 : decode cX4_changed 91 = .ok (.ireturn, 1) := dk_172 (dk_at dksX4_changed_3 22 rfl rfl)
abbrev cX4_drop : ByteArray := prog_14_method_45_code
def yX4_drop : MethodName := ⟨RX4, "drop", "(I)I"⟩
def dkwX4_drop_0 : List UInt8 := [42, 182, 0, 222, 42, 42, 27, 182, 0, 247, 4, 182, 0, 244, 172]
abbrev dktX4_drop_0 : List UInt8 := dkwX4_drop_0 ++ []
theorem dksX4_drop_0 : cX4_drop.data.toList.drop 0 = dktX4_drop_0 := by decide +kernel
theorem dX4_drop_0 : decode cX4_drop 0 = .ok (.aload_n 0, 1) := dk_42 (dk_at dksX4_drop_0 0 rfl rfl)
theorem dX4_drop_1 : decode cX4_drop 1 = .ok (.invokevirtual 222, 3) := dk_182 0 222 (dk_at dksX4_drop_0 1 rfl rfl)
theorem dX4_drop_4 : decode cX4_drop 4 = .ok (.aload_n 0, 1) := dk_42 (dk_at dksX4_drop_0 4 rfl rfl)
theorem dX4_drop_5 : decode cX4_drop 5 = .ok (.aload_n 0, 1) := dk_42 (dk_at dksX4_drop_0 5 rfl rfl)
theorem dX4_drop_6 : decode cX4_drop 6 = .ok (.iload_n 1, 1) := dk_27 (dk_at dksX4_drop_0 6 rfl rfl)
theorem dX4_drop_7 : decode cX4_drop 7 = .ok (.invokevirtual 247, 3) := dk_182 0 247 (dk_at dksX4_drop_0 7 rfl rfl)
theorem dX4_drop_10 : decode cX4_drop 10 = .ok (.iconst 1, 1) := dk_4 (dk_at dksX4_drop_0 10 rfl rfl)
theorem dX4_drop_11 : decode cX4_drop 11 = .ok (.invokevirtual 244, 3) := dk_182 0 244 (dk_at dksX4_drop_0 11 rfl rfl)
theorem dX4_drop_14 : decode cX4_drop 14 = .ok (.ireturn, 1) := dk_172 (dk_at dksX4_drop_0 14 rfl rfl)
abbrev cX4_drops : ByteArray := prog_14_method_39_code
def yX4_drops : MethodName := ⟨RX4, "drops", "(I)I"⟩
def dkwX4_drops_8 : List UInt8 := [182, 0, 206, 172]
abbrev dktX4_drops_8 : List UInt8 := dkwX4_drops_8 ++ []
def dkwX4_drops_7 : List UInt8 := [167, 255, 214, 132, 3, 1, 167, 255, 193, 42, 180, 0, 7, 3, 92, 46, 4, 100, 79, 42, 42, 182, 0, 212]
abbrev dktX4_drops_7 : List UInt8 := dkwX4_drops_7 ++ dktX4_drops_8
def dkwX4_drops_6 : List UInt8 := [21, 4, 96, 42, 180, 0, 7, 16, 7, 16, 11, 29, 4, 96, 104, 96, 21, 4, 96, 46, 79, 132, 4, 1]
abbrev dktX4_drops_6 : List UInt8 := dkwX4_drops_6 ++ dktX4_drops_7
def dkwX4_drops_5 : List UInt8 := [162, 0, 57, 3, 54, 4, 21, 4, 16, 11, 162, 0, 41, 42, 180, 0, 7, 16, 7, 16, 11, 29, 104, 96]
abbrev dktX4_drops_5 : List UInt8 := dkwX4_drops_5 ++ dktX4_drops_6
def dkwX4_drops_4 : List UInt8 := [167, 255, 189, 42, 180, 0, 7, 16, 6, 28, 79, 27, 62, 29, 4, 96, 42, 180, 0, 7, 3, 46]
abbrev dktX4_drops_4 : List UInt8 := dkwX4_drops_4 ++ dktX4_drops_5
def dkwX4_drops_3 : List UInt8 := [21, 4, 27, 164, 0, 10, 21, 4, 4, 100, 167, 0, 5, 21, 4, 79, 132, 2, 1, 132, 3, 1]
abbrev dktX4_drops_3 : List UInt8 := dkwX4_drops_3 ++ dktX4_drops_4
def dkwX4_drops_2 : List UInt8 := [27, 160, 0, 6, 167, 0, 39, 42, 29, 28, 182, 0, 146, 42, 180, 0, 7, 17, 0, 235, 7, 28, 104, 96]
abbrev dktX4_drops_2 : List UInt8 := dkwX4_drops_2 ++ dktX4_drops_3
def dkwX4_drops_1 : List UInt8 := [61, 3, 62, 29, 42, 180, 0, 7, 16, 6, 46, 162, 0, 62, 42, 29, 3, 182, 0, 120, 54, 4, 21, 4]
abbrev dktX4_drops_1 : List UInt8 := dkwX4_drops_1 ++ dktX4_drops_2
def dkwX4_drops_0 : List UInt8 := [27, 3, 42, 180, 0, 7, 3, 46, 4, 100, 184, 0, 209, 154, 0, 10, 42, 6, 27, 182, 0, 203, 172, 3]
abbrev dktX4_drops_0 : List UInt8 := dkwX4_drops_0 ++ dktX4_drops_1
theorem dksX4_drops_0 : cX4_drops.data.toList.drop 0 = dktX4_drops_0 := by decide +kernel
theorem dksX4_drops_1 : cX4_drops.data.toList.drop 24 = dktX4_drops_1 := dk_seg dksX4_drops_0 24 rfl rfl
theorem dksX4_drops_2 : cX4_drops.data.toList.drop 48 = dktX4_drops_2 := dk_seg dksX4_drops_1 24 rfl rfl
theorem dksX4_drops_3 : cX4_drops.data.toList.drop 72 = dktX4_drops_3 := dk_seg dksX4_drops_2 24 rfl rfl
theorem dksX4_drops_4 : cX4_drops.data.toList.drop 94 = dktX4_drops_4 := dk_seg dksX4_drops_3 22 rfl rfl
theorem dksX4_drops_5 : cX4_drops.data.toList.drop 116 = dktX4_drops_5 := dk_seg dksX4_drops_4 22 rfl rfl
theorem dksX4_drops_6 : cX4_drops.data.toList.drop 140 = dktX4_drops_6 := dk_seg dksX4_drops_5 24 rfl rfl
theorem dksX4_drops_7 : cX4_drops.data.toList.drop 164 = dktX4_drops_7 := dk_seg dksX4_drops_6 24 rfl rfl
theorem dksX4_drops_8 : cX4_drops.data.toList.drop 188 = dktX4_drops_8 := dk_seg dksX4_drops_7 24 rfl rfl
theorem dX4_drops_0 : decode cX4_drops 0 = .ok (.iload_n 1, 1) := dk_27 (dk_at dksX4_drops_0 0 rfl rfl)
theorem dX4_drops_1 : decode cX4_drops 1 = .ok (.iconst 0, 1) := dk_3 (dk_at dksX4_drops_0 1 rfl rfl)
theorem dX4_drops_2 : decode cX4_drops 2 = .ok (.aload_n 0, 1) := dk_42 (dk_at dksX4_drops_0 2 rfl rfl)
theorem dX4_drops_3 : decode cX4_drops 3 = .ok (.getfield 7, 3) := dk_180 0 7 (dk_at dksX4_drops_0 3 rfl rfl)
theorem dX4_drops_6 : decode cX4_drops 6 = .ok (.iconst 0, 1) := dk_3 (dk_at dksX4_drops_0 6 rfl rfl)
theorem dX4_drops_7 : decode cX4_drops 7 = .ok (.iaload, 1) := dk_46 (dk_at dksX4_drops_0 7 rfl rfl)
theorem dX4_drops_8 : decode cX4_drops 8 = .ok (.iconst 1, 1) := dk_4 (dk_at dksX4_drops_0 8 rfl rfl)
theorem dX4_drops_9 : decode cX4_drops 9 = .ok (.isub, 1) := dk_100 (dk_at dksX4_drops_0 9 rfl rfl)
theorem dX4_drops_10 : decode cX4_drops 10 = .ok (.invokestatic 209, 3) := dk_184 0 209 (dk_at dksX4_drops_0 10 rfl rfl)
theorem dX4_drops_13 : decode cX4_drops 13 = .ok (.ifCond .ne 10, 3) := dk_154 0 10 (dk_at dksX4_drops_0 13 rfl rfl)
theorem dX4_drops_16 : decode cX4_drops 16 = .ok (.aload_n 0, 1) := dk_42 (dk_at dksX4_drops_0 16 rfl rfl)
theorem dX4_drops_17 : decode cX4_drops 17 = .ok (.iconst 3, 1) := dk_6 (dk_at dksX4_drops_0 17 rfl rfl)
theorem dX4_drops_18 : decode cX4_drops 18 = .ok (.iload_n 1, 1) := dk_27 (dk_at dksX4_drops_0 18 rfl rfl)
theorem dX4_drops_19 : decode cX4_drops 19 = .ok (.invokevirtual 203, 3) := dk_182 0 203 (dk_at dksX4_drops_0 19 rfl rfl)
theorem dX4_drops_22 : decode cX4_drops 22 = .ok (.ireturn, 1) := dk_172 (dk_at dksX4_drops_0 22 rfl rfl)
theorem dX4_drops_23 : decode cX4_drops 23 = .ok (.iconst 0, 1) := dk_3 (dk_at dksX4_drops_0 23 rfl rfl)
theorem dX4_drops_24 : decode cX4_drops 24 = .ok (.istore_n 2, 1) := dk_61 (dk_at dksX4_drops_1 0 rfl rfl)
theorem dX4_drops_25 : decode cX4_drops 25 = .ok (.iconst 0, 1) := dk_3 (dk_at dksX4_drops_1 1 rfl rfl)
theorem dX4_drops_26 : decode cX4_drops 26 = .ok (.istore_n 3, 1) := dk_62 (dk_at dksX4_drops_1 2 rfl rfl)
theorem dX4_drops_27 : decode cX4_drops 27 = .ok (.iload_n 3, 1) := dk_29 (dk_at dksX4_drops_1 3 rfl rfl)
theorem dX4_drops_28 : decode cX4_drops 28 = .ok (.aload_n 0, 1) := dk_42 (dk_at dksX4_drops_1 4 rfl rfl)
theorem dX4_drops_29 : decode cX4_drops 29 = .ok (.getfield 7, 3) := dk_180 0 7 (dk_at dksX4_drops_1 5 rfl rfl)
theorem dX4_drops_32 : decode cX4_drops 32 = .ok (.bipush 6, 2) := dk_16 6 (dk_at dksX4_drops_1 8 rfl rfl)
theorem dX4_drops_34 : decode cX4_drops 34 = .ok (.iaload, 1) := dk_46 (dk_at dksX4_drops_1 10 rfl rfl)
theorem dX4_drops_35 : decode cX4_drops 35 = .ok (.if_icmp .ge 62, 3) := dk_162 0 62 (dk_at dksX4_drops_1 11 rfl rfl)
theorem dX4_drops_38 : decode cX4_drops 38 = .ok (.aload_n 0, 1) := dk_42 (dk_at dksX4_drops_1 14 rfl rfl)
theorem dX4_drops_39 : decode cX4_drops 39 = .ok (.iload_n 3, 1) := dk_29 (dk_at dksX4_drops_1 15 rfl rfl)
theorem dX4_drops_40 : decode cX4_drops 40 = .ok (.iconst 0, 1) := dk_3 (dk_at dksX4_drops_1 16 rfl rfl)
theorem dX4_drops_41 : decode cX4_drops 41 = .ok (.invokevirtual 120, 3) := dk_182 0 120 (dk_at dksX4_drops_1 17 rfl rfl)
theorem dX4_drops_44 : decode cX4_drops 44 = .ok (.istore 4, 2) := dk_54 4 (dk_at dksX4_drops_1 20 rfl rfl)
theorem dX4_drops_46 : decode cX4_drops 46 = .ok (.iload 4, 2) := dk_21 4 (dk_at dksX4_drops_1 22 rfl rfl)
theorem dX4_drops_48 : decode cX4_drops 48 = .ok (.iload_n 1, 1) := dk_27 (dk_at dksX4_drops_2 0 rfl rfl)
theorem dX4_drops_49 : decode cX4_drops 49 = .ok (.if_icmp .ne 6, 3) := dk_160 0 6 (dk_at dksX4_drops_2 1 rfl rfl)
theorem dX4_drops_52 : decode cX4_drops 52 = .ok (.goto 39, 3) := dk_167 0 39 (dk_at dksX4_drops_2 4 rfl rfl)
theorem dX4_drops_55 : decode cX4_drops 55 = .ok (.aload_n 0, 1) := dk_42 (dk_at dksX4_drops_2 7 rfl rfl)
theorem dX4_drops_56 : decode cX4_drops 56 = .ok (.iload_n 3, 1) := dk_29 (dk_at dksX4_drops_2 8 rfl rfl)
theorem dX4_drops_57 : decode cX4_drops 57 = .ok (.iload_n 2, 1) := dk_28 (dk_at dksX4_drops_2 9 rfl rfl)
theorem dX4_drops_58 : decode cX4_drops 58 = .ok (.invokevirtual 146, 3) := dk_182 0 146 (dk_at dksX4_drops_2 10 rfl rfl)
theorem dX4_drops_61 : decode cX4_drops 61 = .ok (.aload_n 0, 1) := dk_42 (dk_at dksX4_drops_2 13 rfl rfl)
theorem dX4_drops_62 : decode cX4_drops 62 = .ok (.getfield 7, 3) := dk_180 0 7 (dk_at dksX4_drops_2 14 rfl rfl)
theorem dX4_drops_65 : decode cX4_drops 65 = .ok (.sipush 235, 3) := dk_17 0 235 (dk_at dksX4_drops_2 17 rfl rfl)
theorem dX4_drops_68 : decode cX4_drops 68 = .ok (.iconst 4, 1) := dk_7 (dk_at dksX4_drops_2 20 rfl rfl)
theorem dX4_drops_69 : decode cX4_drops 69 = .ok (.iload_n 2, 1) := dk_28 (dk_at dksX4_drops_2 21 rfl rfl)
theorem dX4_drops_70 : decode cX4_drops 70 = .ok (.imul, 1) := dk_104 (dk_at dksX4_drops_2 22 rfl rfl)
theorem dX4_drops_71 : decode cX4_drops 71 = .ok (.iadd, 1) := dk_96 (dk_at dksX4_drops_2 23 rfl rfl)
theorem dX4_drops_72 : decode cX4_drops 72 = .ok (.iload 4, 2) := dk_21 4 (dk_at dksX4_drops_3 0 rfl rfl)
theorem dX4_drops_74 : decode cX4_drops 74 = .ok (.iload_n 1, 1) := dk_27 (dk_at dksX4_drops_3 2 rfl rfl)
theorem dX4_drops_75 : decode cX4_drops 75 = .ok (.if_icmp .le 10, 3) := dk_164 0 10 (dk_at dksX4_drops_3 3 rfl rfl)
theorem dX4_drops_78 : decode cX4_drops 78 = .ok (.iload 4, 2) := dk_21 4 (dk_at dksX4_drops_3 6 rfl rfl)
theorem dX4_drops_80 : decode cX4_drops 80 = .ok (.iconst 1, 1) := dk_4 (dk_at dksX4_drops_3 8 rfl rfl)
theorem dX4_drops_81 : decode cX4_drops 81 = .ok (.isub, 1) := dk_100 (dk_at dksX4_drops_3 9 rfl rfl)
theorem dX4_drops_82 : decode cX4_drops 82 = .ok (.goto 5, 3) := dk_167 0 5 (dk_at dksX4_drops_3 10 rfl rfl)
theorem dX4_drops_85 : decode cX4_drops 85 = .ok (.iload 4, 2) := dk_21 4 (dk_at dksX4_drops_3 13 rfl rfl)
theorem dX4_drops_87 : decode cX4_drops 87 = .ok (.iastore, 1) := dk_79 (dk_at dksX4_drops_3 15 rfl rfl)
theorem dX4_drops_88 : decode cX4_drops 88 = .ok (.iinc 2 1, 3) := dk_132 2 1 (dk_at dksX4_drops_3 16 rfl rfl)
theorem dX4_drops_91 : decode cX4_drops 91 = .ok (.iinc 3 1, 3) := dk_132 3 1 (dk_at dksX4_drops_3 19 rfl rfl)
theorem dX4_drops_94 : decode cX4_drops 94 = .ok (.goto (-67), 3) := dk_167 255 189 (dk_at dksX4_drops_4 0 rfl rfl)
theorem dX4_drops_97 : decode cX4_drops 97 = .ok (.aload_n 0, 1) := dk_42 (dk_at dksX4_drops_4 3 rfl rfl)
theorem dX4_drops_98 : decode cX4_drops 98 = .ok (.getfield 7, 3) := dk_180 0 7 (dk_at dksX4_drops_4 4 rfl rfl)
theorem dX4_drops_101 : decode cX4_drops 101 = .ok (.bipush 6, 2) := dk_16 6 (dk_at dksX4_drops_4 7 rfl rfl)
theorem dX4_drops_103 : decode cX4_drops 103 = .ok (.iload_n 2, 1) := dk_28 (dk_at dksX4_drops_4 9 rfl rfl)
theorem dX4_drops_104 : decode cX4_drops 104 = .ok (.iastore, 1) := dk_79 (dk_at dksX4_drops_4 10 rfl rfl)
theorem dX4_drops_105 : decode cX4_drops 105 = .ok (.iload_n 1, 1) := dk_27 (dk_at dksX4_drops_4 11 rfl rfl)
theorem dX4_drops_106 : decode cX4_drops 106 = .ok (.istore_n 3, 1) := dk_62 (dk_at dksX4_drops_4 12 rfl rfl)
theorem dX4_drops_107 : decode cX4_drops 107 = .ok (.iload_n 3, 1) := dk_29 (dk_at dksX4_drops_4 13 rfl rfl)
theorem dX4_drops_108 : decode cX4_drops 108 = .ok (.iconst 1, 1) := dk_4 (dk_at dksX4_drops_4 14 rfl rfl)
theorem dX4_drops_109 : decode cX4_drops 109 = .ok (.iadd, 1) := dk_96 (dk_at dksX4_drops_4 15 rfl rfl)
theorem dX4_drops_110 : decode cX4_drops 110 = .ok (.aload_n 0, 1) := dk_42 (dk_at dksX4_drops_4 16 rfl rfl)
theorem dX4_drops_111 : decode cX4_drops 111 = .ok (.getfield 7, 3) := dk_180 0 7 (dk_at dksX4_drops_4 17 rfl rfl)
theorem dX4_drops_114 : decode cX4_drops 114 = .ok (.iconst 0, 1) := dk_3 (dk_at dksX4_drops_4 20 rfl rfl)
theorem dX4_drops_115 : decode cX4_drops 115 = .ok (.iaload, 1) := dk_46 (dk_at dksX4_drops_4 21 rfl rfl)
theorem dX4_drops_116 : decode cX4_drops 116 = .ok (.if_icmp .ge 57, 3) := dk_162 0 57 (dk_at dksX4_drops_5 0 rfl rfl)
theorem dX4_drops_119 : decode cX4_drops 119 = .ok (.iconst 0, 1) := dk_3 (dk_at dksX4_drops_5 3 rfl rfl)
theorem dX4_drops_120 : decode cX4_drops 120 = .ok (.istore 4, 2) := dk_54 4 (dk_at dksX4_drops_5 4 rfl rfl)
theorem dX4_drops_122 : decode cX4_drops 122 = .ok (.iload 4, 2) := dk_21 4 (dk_at dksX4_drops_5 6 rfl rfl)
theorem dX4_drops_124 : decode cX4_drops 124 = .ok (.bipush 11, 2) := dk_16 11 (dk_at dksX4_drops_5 8 rfl rfl)
theorem dX4_drops_126 : decode cX4_drops 126 = .ok (.if_icmp .ge 41, 3) := dk_162 0 41 (dk_at dksX4_drops_5 10 rfl rfl)
theorem dX4_drops_129 : decode cX4_drops 129 = .ok (.aload_n 0, 1) := dk_42 (dk_at dksX4_drops_5 13 rfl rfl)
theorem dX4_drops_130 : decode cX4_drops 130 = .ok (.getfield 7, 3) := dk_180 0 7 (dk_at dksX4_drops_5 14 rfl rfl)
theorem dX4_drops_133 : decode cX4_drops 133 = .ok (.bipush 7, 2) := dk_16 7 (dk_at dksX4_drops_5 17 rfl rfl)
theorem dX4_drops_135 : decode cX4_drops 135 = .ok (.bipush 11, 2) := dk_16 11 (dk_at dksX4_drops_5 19 rfl rfl)
theorem dX4_drops_137 : decode cX4_drops 137 = .ok (.iload_n 3, 1) := dk_29 (dk_at dksX4_drops_5 21 rfl rfl)
theorem dX4_drops_138 : decode cX4_drops 138 = .ok (.imul, 1) := dk_104 (dk_at dksX4_drops_5 22 rfl rfl)
theorem dX4_drops_139 : decode cX4_drops 139 = .ok (.iadd, 1) := dk_96 (dk_at dksX4_drops_5 23 rfl rfl)
theorem dX4_drops_140 : decode cX4_drops 140 = .ok (.iload 4, 2) := dk_21 4 (dk_at dksX4_drops_6 0 rfl rfl)
theorem dX4_drops_142 : decode cX4_drops 142 = .ok (.iadd, 1) := dk_96 (dk_at dksX4_drops_6 2 rfl rfl)
theorem dX4_drops_143 : decode cX4_drops 143 = .ok (.aload_n 0, 1) := dk_42 (dk_at dksX4_drops_6 3 rfl rfl)
theorem dX4_drops_144 : decode cX4_drops 144 = .ok (.getfield 7, 3) := dk_180 0 7 (dk_at dksX4_drops_6 4 rfl rfl)
theorem dX4_drops_147 : decode cX4_drops 147 = .ok (.bipush 7, 2) := dk_16 7 (dk_at dksX4_drops_6 7 rfl rfl)
theorem dX4_drops_149 : decode cX4_drops 149 = .ok (.bipush 11, 2) := dk_16 11 (dk_at dksX4_drops_6 9 rfl rfl)
theorem dX4_drops_151 : decode cX4_drops 151 = .ok (.iload_n 3, 1) := dk_29 (dk_at dksX4_drops_6 11 rfl rfl)
theorem dX4_drops_152 : decode cX4_drops 152 = .ok (.iconst 1, 1) := dk_4 (dk_at dksX4_drops_6 12 rfl rfl)
theorem dX4_drops_153 : decode cX4_drops 153 = .ok (.iadd, 1) := dk_96 (dk_at dksX4_drops_6 13 rfl rfl)
theorem dX4_drops_154 : decode cX4_drops 154 = .ok (.imul, 1) := dk_104 (dk_at dksX4_drops_6 14 rfl rfl)
theorem dX4_drops_155 : decode cX4_drops 155 = .ok (.iadd, 1) := dk_96 (dk_at dksX4_drops_6 15 rfl rfl)
theorem dX4_drops_156 : decode cX4_drops 156 = .ok (.iload 4, 2) := dk_21 4 (dk_at dksX4_drops_6 16 rfl rfl)
theorem dX4_drops_158 : decode cX4_drops 158 = .ok (.iadd, 1) := dk_96 (dk_at dksX4_drops_6 18 rfl rfl)
theorem dX4_drops_159 : decode cX4_drops 159 = .ok (.iaload, 1) := dk_46 (dk_at dksX4_drops_6 19 rfl rfl)
theorem dX4_drops_160 : decode cX4_drops 160 = .ok (.iastore, 1) := dk_79 (dk_at dksX4_drops_6 20 rfl rfl)
theorem dX4_drops_161 : decode cX4_drops 161 = .ok (.iinc 4 1, 3) := dk_132 4 1 (dk_at dksX4_drops_6 21 rfl rfl)
theorem dX4_drops_164 : decode cX4_drops 164 = .ok (.goto (-42), 3) := dk_167 255 214 (dk_at dksX4_drops_7 0 rfl rfl)
theorem dX4_drops_167 : decode cX4_drops 167 = .ok (.iinc 3 1, 3) := dk_132 3 1 (dk_at dksX4_drops_7 3 rfl rfl)
theorem dX4_drops_170 : decode cX4_drops 170 = .ok (.goto (-63), 3) := dk_167 255 193 (dk_at dksX4_drops_7 6 rfl rfl)
theorem dX4_drops_173 : decode cX4_drops 173 = .ok (.aload_n 0, 1) := dk_42 (dk_at dksX4_drops_7 9 rfl rfl)
theorem dX4_drops_174 : decode cX4_drops 174 = .ok (.getfield 7, 3) := dk_180 0 7 (dk_at dksX4_drops_7 10 rfl rfl)
theorem dX4_drops_177 : decode cX4_drops 177 = .ok (.iconst 0, 1) := dk_3 (dk_at dksX4_drops_7 13 rfl rfl)
theorem dX4_drops_178 : decode cX4_drops 178 = .ok (.dup2, 1) := dk_92 (dk_at dksX4_drops_7 14 rfl rfl)
theorem dX4_drops_179 : decode cX4_drops 179 = .ok (.iaload, 1) := dk_46 (dk_at dksX4_drops_7 15 rfl rfl)
theorem dX4_drops_180 : decode cX4_drops 180 = .ok (.iconst 1, 1) := dk_4 (dk_at dksX4_drops_7 16 rfl rfl)
theorem dX4_drops_181 : decode cX4_drops 181 = .ok (.isub, 1) := dk_100 (dk_at dksX4_drops_7 17 rfl rfl)
theorem dX4_drops_182 : decode cX4_drops 182 = .ok (.iastore, 1) := dk_79 (dk_at dksX4_drops_7 18 rfl rfl)
theorem dX4_drops_183 : decode cX4_drops 183 = .ok (.aload_n 0, 1) := dk_42 (dk_at dksX4_drops_7 19 rfl rfl)
theorem dX4_drops_184 : decode cX4_drops 184 = .ok (.aload_n 0, 1) := dk_42 (dk_at dksX4_drops_7 20 rfl rfl)
theorem dX4_drops_185 : decode cX4_drops 185 = .ok (.invokevirtual 212, 3) := dk_182 0 212 (dk_at dksX4_drops_7 21 rfl rfl)
theorem dX4_drops_188 : decode cX4_drops 188 = .ok (.invokevirtual 206, 3) := dk_182 0 206 (dk_at dksX4_drops_8 0 rfl rfl)
theorem dX4_drops_191 : decode cX4_drops 191 = .ok (.ireturn, 1) := dk_172 (dk_at dksX4_drops_8 3 rfl rfl)
abbrev cX4_firing : ByteArray := prog_14_method_14_code
def yX4_firing : MethodName := ⟨RX4, "firing", "(II)I"⟩
def dkwX4_firing_0 : List UInt8 := [42, 180, 0, 7, 17, 0, 235, 7, 27, 104, 96, 28, 96, 46, 172]
abbrev dktX4_firing_0 : List UInt8 := dkwX4_firing_0 ++ []
theorem dksX4_firing_0 : cX4_firing.data.toList.drop 0 = dktX4_firing_0 := by decide +kernel
theorem dX4_firing_0 : decode cX4_firing 0 = .ok (.aload_n 0, 1) := dk_42 (dk_at dksX4_firing_0 0 rfl rfl)
theorem dX4_firing_1 : decode cX4_firing 1 = .ok (.getfield 7, 3) := dk_180 0 7 (dk_at dksX4_firing_0 1 rfl rfl)
theorem dX4_firing_4 : decode cX4_firing 4 = .ok (.sipush 235, 3) := dk_17 0 235 (dk_at dksX4_firing_0 4 rfl rfl)
theorem dX4_firing_7 : decode cX4_firing 7 = .ok (.iconst 4, 1) := dk_7 (dk_at dksX4_firing_0 7 rfl rfl)
theorem dX4_firing_8 : decode cX4_firing 8 = .ok (.iload_n 1, 1) := dk_27 (dk_at dksX4_firing_0 8 rfl rfl)
theorem dX4_firing_9 : decode cX4_firing 9 = .ok (.imul, 1) := dk_104 (dk_at dksX4_firing_0 9 rfl rfl)
theorem dX4_firing_10 : decode cX4_firing 10 = .ok (.iadd, 1) := dk_96 (dk_at dksX4_firing_0 10 rfl rfl)
theorem dX4_firing_11 : decode cX4_firing 11 = .ok (.iload_n 2, 1) := dk_28 (dk_at dksX4_firing_0 11 rfl rfl)
theorem dX4_firing_12 : decode cX4_firing 12 = .ok (.iadd, 1) := dk_96 (dk_at dksX4_firing_0 12 rfl rfl)
theorem dX4_firing_13 : decode cX4_firing 13 = .ok (.iaload, 1) := dk_46 (dk_at dksX4_firing_0 13 rfl rfl)
theorem dX4_firing_14 : decode cX4_firing 14 = .ok (.ireturn, 1) := dk_172 (dk_at dksX4_firing_0 14 rfl rfl)
abbrev cX4_movesFiring : ByteArray := prog_14_method_19_code
def yX4_movesFiring : MethodName := ⟨RX4, "movesFiring", "(II)V"⟩
def dkwX4_movesFiring_1 : List UInt8 := [17, 0, 235, 7, 27, 104, 96, 29, 96, 46, 79, 132, 3, 1, 167, 255, 220, 177]
abbrev dktX4_movesFiring_1 : List UInt8 := dkwX4_movesFiring_1 ++ []
def dkwX4_movesFiring_0 : List UInt8 := [3, 62, 29, 7, 162, 0, 37, 42, 180, 0, 7, 17, 0, 235, 7, 28, 104, 96, 29, 96, 42, 180, 0, 7]
abbrev dktX4_movesFiring_0 : List UInt8 := dkwX4_movesFiring_0 ++ dktX4_movesFiring_1
theorem dksX4_movesFiring_0 : cX4_movesFiring.data.toList.drop 0 = dktX4_movesFiring_0 := by decide +kernel
theorem dksX4_movesFiring_1 : cX4_movesFiring.data.toList.drop 24 = dktX4_movesFiring_1 := dk_seg dksX4_movesFiring_0 24 rfl rfl
theorem dX4_movesFiring_0 : decode cX4_movesFiring 0 = .ok (.iconst 0, 1) := dk_3 (dk_at dksX4_movesFiring_0 0 rfl rfl)
theorem dX4_movesFiring_1 : decode cX4_movesFiring 1 = .ok (.istore_n 3, 1) := dk_62 (dk_at dksX4_movesFiring_0 1 rfl rfl)
theorem dX4_movesFiring_2 : decode cX4_movesFiring 2 = .ok (.iload_n 3, 1) := dk_29 (dk_at dksX4_movesFiring_0 2 rfl rfl)
theorem dX4_movesFiring_3 : decode cX4_movesFiring 3 = .ok (.iconst 4, 1) := dk_7 (dk_at dksX4_movesFiring_0 3 rfl rfl)
theorem dX4_movesFiring_4 : decode cX4_movesFiring 4 = .ok (.if_icmp .ge 37, 3) := dk_162 0 37 (dk_at dksX4_movesFiring_0 4 rfl rfl)
theorem dX4_movesFiring_7 : decode cX4_movesFiring 7 = .ok (.aload_n 0, 1) := dk_42 (dk_at dksX4_movesFiring_0 7 rfl rfl)
theorem dX4_movesFiring_8 : decode cX4_movesFiring 8 = .ok (.getfield 7, 3) := dk_180 0 7 (dk_at dksX4_movesFiring_0 8 rfl rfl)
theorem dX4_movesFiring_11 : decode cX4_movesFiring 11 = .ok (.sipush 235, 3) := dk_17 0 235 (dk_at dksX4_movesFiring_0 11 rfl rfl)
theorem dX4_movesFiring_14 : decode cX4_movesFiring 14 = .ok (.iconst 4, 1) := dk_7 (dk_at dksX4_movesFiring_0 14 rfl rfl)
theorem dX4_movesFiring_15 : decode cX4_movesFiring 15 = .ok (.iload_n 2, 1) := dk_28 (dk_at dksX4_movesFiring_0 15 rfl rfl)
theorem dX4_movesFiring_16 : decode cX4_movesFiring 16 = .ok (.imul, 1) := dk_104 (dk_at dksX4_movesFiring_0 16 rfl rfl)
theorem dX4_movesFiring_17 : decode cX4_movesFiring 17 = .ok (.iadd, 1) := dk_96 (dk_at dksX4_movesFiring_0 17 rfl rfl)
theorem dX4_movesFiring_18 : decode cX4_movesFiring 18 = .ok (.iload_n 3, 1) := dk_29 (dk_at dksX4_movesFiring_0 18 rfl rfl)
theorem dX4_movesFiring_19 : decode cX4_movesFiring 19 = .ok (.iadd, 1) := dk_96 (dk_at dksX4_movesFiring_0 19 rfl rfl)
theorem dX4_movesFiring_20 : decode cX4_movesFiring 20 = .ok (.aload_n 0, 1) := dk_42 (dk_at dksX4_movesFiring_0 20 rfl rfl)
theorem dX4_movesFiring_21 : decode cX4_movesFiring 21 = .ok (.getfield 7, 3) := dk_180 0 7 (dk_at dksX4_movesFiring_0 21 rfl rfl)
theorem dX4_movesFiring_24 : decode cX4_movesFiring 24 = .ok (.sipush 235, 3) := dk_17 0 235 (dk_at dksX4_movesFiring_1 0 rfl rfl)
theorem dX4_movesFiring_27 : decode cX4_movesFiring 27 = .ok (.iconst 4, 1) := dk_7 (dk_at dksX4_movesFiring_1 3 rfl rfl)
theorem dX4_movesFiring_28 : decode cX4_movesFiring 28 = .ok (.iload_n 1, 1) := dk_27 (dk_at dksX4_movesFiring_1 4 rfl rfl)
theorem dX4_movesFiring_29 : decode cX4_movesFiring 29 = .ok (.imul, 1) := dk_104 (dk_at dksX4_movesFiring_1 5 rfl rfl)
theorem dX4_movesFiring_30 : decode cX4_movesFiring 30 = .ok (.iadd, 1) := dk_96 (dk_at dksX4_movesFiring_1 6 rfl rfl)
theorem dX4_movesFiring_31 : decode cX4_movesFiring 31 = .ok (.iload_n 3, 1) := dk_29 (dk_at dksX4_movesFiring_1 7 rfl rfl)
theorem dX4_movesFiring_32 : decode cX4_movesFiring 32 = .ok (.iadd, 1) := dk_96 (dk_at dksX4_movesFiring_1 8 rfl rfl)
theorem dX4_movesFiring_33 : decode cX4_movesFiring 33 = .ok (.iaload, 1) := dk_46 (dk_at dksX4_movesFiring_1 9 rfl rfl)
theorem dX4_movesFiring_34 : decode cX4_movesFiring 34 = .ok (.iastore, 1) := dk_79 (dk_at dksX4_movesFiring_1 10 rfl rfl)
theorem dX4_movesFiring_35 : decode cX4_movesFiring 35 = .ok (.iinc 3 1, 3) := dk_132 3 1 (dk_at dksX4_movesFiring_1 11 rfl rfl)
theorem dX4_movesFiring_38 : decode cX4_movesFiring 38 = .ok (.goto (-36), 3) := dk_167 255 220 (dk_at dksX4_movesFiring_1 14 rfl rfl)
theorem dX4_movesFiring_41 : decode cX4_movesFiring 41 = .ok (.return_, 1) := dk_177 (dk_at dksX4_movesFiring_1 17 rfl rfl)
abbrev cX4_cleans : ByteArray := prog_14_method_22_code
def yX4_cleans : MethodName := ⟨RX4, "cleans", "()I"⟩
def dkwX4_cleans_6 : List UInt8 := [46, 27, 96, 79, 27, 172]
abbrev dktX4_cleans_6 : List UInt8 := dkwX4_cleans_6 ++ []
def dkwX4_cleans_5 : List UInt8 := [132, 4, 1, 132, 5, 1, 167, 255, 199, 42, 180, 0, 7, 16, 6, 21, 4, 79, 42, 180, 0, 7, 7, 92]
abbrev dktX4_cleans_5 : List UInt8 := dkwX4_cleans_5 ++ dktX4_cleans_6
def dkwX4_cleans_4 : List UInt8 := [42, 21, 5, 5, 182, 0, 120, 182, 0, 143, 154, 0, 6, 167, 0, 14, 42, 21, 5, 21, 4, 182, 0, 146]
abbrev dktX4_cleans_4 : List UInt8 := dkwX4_cleans_4 ++ dktX4_cleans_5
def dkwX4_cleans_3 : List UInt8 := [180, 0, 7, 16, 6, 46, 162, 0, 51, 42, 42, 21, 5, 4, 182, 0, 120, 182, 0, 143, 153, 0, 31, 42]
abbrev dktX4_cleans_3 : List UInt8 := dkwX4_cleans_3 ++ dktX4_cleans_4
def dkwX4_cleans_2 : List UInt8 := [132, 4, 1, 167, 255, 224, 42, 180, 0, 7, 4, 29, 79, 3, 54, 4, 3, 54, 5, 21, 5, 42]
abbrev dktX4_cleans_2 : List UInt8 := dkwX4_cleans_2 ++ dktX4_cleans_3
def dkwX4_cleans_1 : List UInt8 := [180, 0, 46, 21, 4, 51, 154, 0, 6, 167, 0, 13, 42, 21, 4, 29, 182, 0, 139, 132, 3, 1]
abbrev dktX4_cleans_1 : List UInt8 := dkwX4_cleans_1 ++ dktX4_cleans_2
def dkwX4_cleans_0 : List UInt8 := [42, 182, 0, 135, 60, 42, 180, 0, 7, 4, 46, 61, 3, 62, 3, 54, 4, 21, 4, 28, 162, 0, 32, 42]
abbrev dktX4_cleans_0 : List UInt8 := dkwX4_cleans_0 ++ dktX4_cleans_1
theorem dksX4_cleans_0 : cX4_cleans.data.toList.drop 0 = dktX4_cleans_0 := by decide +kernel
theorem dksX4_cleans_1 : cX4_cleans.data.toList.drop 24 = dktX4_cleans_1 := dk_seg dksX4_cleans_0 24 rfl rfl
theorem dksX4_cleans_2 : cX4_cleans.data.toList.drop 46 = dktX4_cleans_2 := dk_seg dksX4_cleans_1 22 rfl rfl
theorem dksX4_cleans_3 : cX4_cleans.data.toList.drop 68 = dktX4_cleans_3 := dk_seg dksX4_cleans_2 22 rfl rfl
theorem dksX4_cleans_4 : cX4_cleans.data.toList.drop 92 = dktX4_cleans_4 := dk_seg dksX4_cleans_3 24 rfl rfl
theorem dksX4_cleans_5 : cX4_cleans.data.toList.drop 116 = dktX4_cleans_5 := dk_seg dksX4_cleans_4 24 rfl rfl
theorem dksX4_cleans_6 : cX4_cleans.data.toList.drop 140 = dktX4_cleans_6 := dk_seg dksX4_cleans_5 24 rfl rfl
theorem dX4_cleans_0 : decode cX4_cleans 0 = .ok (.aload_n 0, 1) := dk_42 (dk_at dksX4_cleans_0 0 rfl rfl)
theorem dX4_cleans_1 : decode cX4_cleans 1 = .ok (.invokevirtual 135, 3) := dk_182 0 135 (dk_at dksX4_cleans_0 1 rfl rfl)
theorem dX4_cleans_4 : decode cX4_cleans 4 = .ok (.istore_n 1, 1) := dk_60 (dk_at dksX4_cleans_0 4 rfl rfl)
theorem dX4_cleans_5 : decode cX4_cleans 5 = .ok (.aload_n 0, 1) := dk_42 (dk_at dksX4_cleans_0 5 rfl rfl)
theorem dX4_cleans_6 : decode cX4_cleans 6 = .ok (.getfield 7, 3) := dk_180 0 7 (dk_at dksX4_cleans_0 6 rfl rfl)
theorem dX4_cleans_9 : decode cX4_cleans 9 = .ok (.iconst 1, 1) := dk_4 (dk_at dksX4_cleans_0 9 rfl rfl)
theorem dX4_cleans_10 : decode cX4_cleans 10 = .ok (.iaload, 1) := dk_46 (dk_at dksX4_cleans_0 10 rfl rfl)
theorem dX4_cleans_11 : decode cX4_cleans 11 = .ok (.istore_n 2, 1) := dk_61 (dk_at dksX4_cleans_0 11 rfl rfl)
theorem dX4_cleans_12 : decode cX4_cleans 12 = .ok (.iconst 0, 1) := dk_3 (dk_at dksX4_cleans_0 12 rfl rfl)
theorem dX4_cleans_13 : decode cX4_cleans 13 = .ok (.istore_n 3, 1) := dk_62 (dk_at dksX4_cleans_0 13 rfl rfl)
theorem dX4_cleans_14 : decode cX4_cleans 14 = .ok (.iconst 0, 1) := dk_3 (dk_at dksX4_cleans_0 14 rfl rfl)
theorem dX4_cleans_15 : decode cX4_cleans 15 = .ok (.istore 4, 2) := dk_54 4 (dk_at dksX4_cleans_0 15 rfl rfl)
theorem dX4_cleans_17 : decode cX4_cleans 17 = .ok (.iload 4, 2) := dk_21 4 (dk_at dksX4_cleans_0 17 rfl rfl)
theorem dX4_cleans_19 : decode cX4_cleans 19 = .ok (.iload_n 2, 1) := dk_28 (dk_at dksX4_cleans_0 19 rfl rfl)
theorem dX4_cleans_20 : decode cX4_cleans 20 = .ok (.if_icmp .ge 32, 3) := dk_162 0 32 (dk_at dksX4_cleans_0 20 rfl rfl)
theorem dX4_cleans_23 : decode cX4_cleans 23 = .ok (.aload_n 0, 1) := dk_42 (dk_at dksX4_cleans_0 23 rfl rfl)
theorem dX4_cleans_24 : decode cX4_cleans 24 = .ok (.getfield 46, 3) := dk_180 0 46 (dk_at dksX4_cleans_1 0 rfl rfl)
theorem dX4_cleans_27 : decode cX4_cleans 27 = .ok (.iload 4, 2) := dk_21 4 (dk_at dksX4_cleans_1 3 rfl rfl)
theorem dX4_cleans_29 : decode cX4_cleans 29 = .ok (.baload, 1) := dk_51 (dk_at dksX4_cleans_1 5 rfl rfl)
theorem dX4_cleans_30 : decode cX4_cleans 30 = .ok (.ifCond .ne 6, 3) := dk_154 0 6 (dk_at dksX4_cleans_1 6 rfl rfl)
theorem dX4_cleans_33 : decode cX4_cleans 33 = .ok (.goto 13, 3) := dk_167 0 13 (dk_at dksX4_cleans_1 9 rfl rfl)
theorem dX4_cleans_36 : decode cX4_cleans 36 = .ok (.aload_n 0, 1) := dk_42 (dk_at dksX4_cleans_1 12 rfl rfl)
theorem dX4_cleans_37 : decode cX4_cleans 37 = .ok (.iload 4, 2) := dk_21 4 (dk_at dksX4_cleans_1 13 rfl rfl)
theorem dX4_cleans_39 : decode cX4_cleans 39 = .ok (.iload_n 3, 1) := dk_29 (dk_at dksX4_cleans_1 15 rfl rfl)
theorem dX4_cleans_40 : decode cX4_cleans 40 = .ok (.invokevirtual 139, 3) := dk_182 0 139 (dk_at dksX4_cleans_1 16 rfl rfl)
theorem dX4_cleans_43 : decode cX4_cleans 43 = .ok (.iinc 3 1, 3) := dk_132 3 1 (dk_at dksX4_cleans_1 19 rfl rfl)
theorem dX4_cleans_46 : decode cX4_cleans 46 = .ok (.iinc 4 1, 3) := dk_132 4 1 (dk_at dksX4_cleans_2 0 rfl rfl)
theorem dX4_cleans_49 : decode cX4_cleans 49 = .ok (.goto (-32), 3) := dk_167 255 224 (dk_at dksX4_cleans_2 3 rfl rfl)
theorem dX4_cleans_52 : decode cX4_cleans 52 = .ok (.aload_n 0, 1) := dk_42 (dk_at dksX4_cleans_2 6 rfl rfl)
theorem dX4_cleans_53 : decode cX4_cleans 53 = .ok (.getfield 7, 3) := dk_180 0 7 (dk_at dksX4_cleans_2 7 rfl rfl)
theorem dX4_cleans_56 : decode cX4_cleans 56 = .ok (.iconst 1, 1) := dk_4 (dk_at dksX4_cleans_2 10 rfl rfl)
theorem dX4_cleans_57 : decode cX4_cleans 57 = .ok (.iload_n 3, 1) := dk_29 (dk_at dksX4_cleans_2 11 rfl rfl)
theorem dX4_cleans_58 : decode cX4_cleans 58 = .ok (.iastore, 1) := dk_79 (dk_at dksX4_cleans_2 12 rfl rfl)
theorem dX4_cleans_59 : decode cX4_cleans 59 = .ok (.iconst 0, 1) := dk_3 (dk_at dksX4_cleans_2 13 rfl rfl)
theorem dX4_cleans_60 : decode cX4_cleans 60 = .ok (.istore 4, 2) := dk_54 4 (dk_at dksX4_cleans_2 14 rfl rfl)
theorem dX4_cleans_62 : decode cX4_cleans 62 = .ok (.iconst 0, 1) := dk_3 (dk_at dksX4_cleans_2 16 rfl rfl)
theorem dX4_cleans_63 : decode cX4_cleans 63 = .ok (.istore 5, 2) := dk_54 5 (dk_at dksX4_cleans_2 17 rfl rfl)
theorem dX4_cleans_65 : decode cX4_cleans 65 = .ok (.iload 5, 2) := dk_21 5 (dk_at dksX4_cleans_2 19 rfl rfl)
theorem dX4_cleans_67 : decode cX4_cleans 67 = .ok (.aload_n 0, 1) := dk_42 (dk_at dksX4_cleans_2 21 rfl rfl)
theorem dX4_cleans_68 : decode cX4_cleans 68 = .ok (.getfield 7, 3) := dk_180 0 7 (dk_at dksX4_cleans_3 0 rfl rfl)
theorem dX4_cleans_71 : decode cX4_cleans 71 = .ok (.bipush 6, 2) := dk_16 6 (dk_at dksX4_cleans_3 3 rfl rfl)
theorem dX4_cleans_73 : decode cX4_cleans 73 = .ok (.iaload, 1) := dk_46 (dk_at dksX4_cleans_3 5 rfl rfl)
theorem dX4_cleans_74 : decode cX4_cleans 74 = .ok (.if_icmp .ge 51, 3) := dk_162 0 51 (dk_at dksX4_cleans_3 6 rfl rfl)
theorem dX4_cleans_77 : decode cX4_cleans 77 = .ok (.aload_n 0, 1) := dk_42 (dk_at dksX4_cleans_3 9 rfl rfl)
theorem dX4_cleans_78 : decode cX4_cleans 78 = .ok (.aload_n 0, 1) := dk_42 (dk_at dksX4_cleans_3 10 rfl rfl)
theorem dX4_cleans_79 : decode cX4_cleans 79 = .ok (.iload 5, 2) := dk_21 5 (dk_at dksX4_cleans_3 11 rfl rfl)
theorem dX4_cleans_81 : decode cX4_cleans 81 = .ok (.iconst 1, 1) := dk_4 (dk_at dksX4_cleans_3 13 rfl rfl)
theorem dX4_cleans_82 : decode cX4_cleans 82 = .ok (.invokevirtual 120, 3) := dk_182 0 120 (dk_at dksX4_cleans_3 14 rfl rfl)
theorem dX4_cleans_85 : decode cX4_cleans 85 = .ok (.invokevirtual 143, 3) := dk_182 0 143 (dk_at dksX4_cleans_3 17 rfl rfl)
theorem dX4_cleans_88 : decode cX4_cleans 88 = .ok (.ifCond .eq 31, 3) := dk_153 0 31 (dk_at dksX4_cleans_3 20 rfl rfl)
theorem dX4_cleans_91 : decode cX4_cleans 91 = .ok (.aload_n 0, 1) := dk_42 (dk_at dksX4_cleans_3 23 rfl rfl)
theorem dX4_cleans_92 : decode cX4_cleans 92 = .ok (.aload_n 0, 1) := dk_42 (dk_at dksX4_cleans_4 0 rfl rfl)
theorem dX4_cleans_93 : decode cX4_cleans 93 = .ok (.iload 5, 2) := dk_21 5 (dk_at dksX4_cleans_4 1 rfl rfl)
theorem dX4_cleans_95 : decode cX4_cleans 95 = .ok (.iconst 2, 1) := dk_5 (dk_at dksX4_cleans_4 3 rfl rfl)
theorem dX4_cleans_96 : decode cX4_cleans 96 = .ok (.invokevirtual 120, 3) := dk_182 0 120 (dk_at dksX4_cleans_4 4 rfl rfl)
theorem dX4_cleans_99 : decode cX4_cleans 99 = .ok (.invokevirtual 143, 3) := dk_182 0 143 (dk_at dksX4_cleans_4 7 rfl rfl)
theorem dX4_cleans_102 : decode cX4_cleans 102 = .ok (.ifCond .ne 6, 3) := dk_154 0 6 (dk_at dksX4_cleans_4 10 rfl rfl)
theorem dX4_cleans_105 : decode cX4_cleans 105 = .ok (.goto 14, 3) := dk_167 0 14 (dk_at dksX4_cleans_4 13 rfl rfl)
theorem dX4_cleans_108 : decode cX4_cleans 108 = .ok (.aload_n 0, 1) := dk_42 (dk_at dksX4_cleans_4 16 rfl rfl)
theorem dX4_cleans_109 : decode cX4_cleans 109 = .ok (.iload 5, 2) := dk_21 5 (dk_at dksX4_cleans_4 17 rfl rfl)
theorem dX4_cleans_111 : decode cX4_cleans 111 = .ok (.iload 4, 2) := dk_21 4 (dk_at dksX4_cleans_4 19 rfl rfl)
theorem dX4_cleans_113 : decode cX4_cleans 113 = .ok (.invokevirtual 146, 3) := dk_182 0 146 (dk_at dksX4_cleans_4 21 rfl rfl)
theorem dX4_cleans_116 : decode cX4_cleans 116 = .ok (.iinc 4 1, 3) := dk_132 4 1 (dk_at dksX4_cleans_5 0 rfl rfl)
theorem dX4_cleans_119 : decode cX4_cleans 119 = .ok (.iinc 5 1, 3) := dk_132 5 1 (dk_at dksX4_cleans_5 3 rfl rfl)
theorem dX4_cleans_122 : decode cX4_cleans 122 = .ok (.goto (-57), 3) := dk_167 255 199 (dk_at dksX4_cleans_5 6 rfl rfl)
theorem dX4_cleans_125 : decode cX4_cleans 125 = .ok (.aload_n 0, 1) := dk_42 (dk_at dksX4_cleans_5 9 rfl rfl)
theorem dX4_cleans_126 : decode cX4_cleans 126 = .ok (.getfield 7, 3) := dk_180 0 7 (dk_at dksX4_cleans_5 10 rfl rfl)
theorem dX4_cleans_129 : decode cX4_cleans 129 = .ok (.bipush 6, 2) := dk_16 6 (dk_at dksX4_cleans_5 13 rfl rfl)
theorem dX4_cleans_131 : decode cX4_cleans 131 = .ok (.iload 4, 2) := dk_21 4 (dk_at dksX4_cleans_5 15 rfl rfl)
theorem dX4_cleans_133 : decode cX4_cleans 133 = .ok (.iastore, 1) := dk_79 (dk_at dksX4_cleans_5 17 rfl rfl)
theorem dX4_cleans_134 : decode cX4_cleans 134 = .ok (.aload_n 0, 1) := dk_42 (dk_at dksX4_cleans_5 18 rfl rfl)
theorem dX4_cleans_135 : decode cX4_cleans 135 = .ok (.getfield 7, 3) := dk_180 0 7 (dk_at dksX4_cleans_5 19 rfl rfl)
theorem dX4_cleans_138 : decode cX4_cleans 138 = .ok (.iconst 4, 1) := dk_7 (dk_at dksX4_cleans_5 22 rfl rfl)
theorem dX4_cleans_139 : decode cX4_cleans 139 = .ok (.dup2, 1) := dk_92 (dk_at dksX4_cleans_5 23 rfl rfl)
theorem dX4_cleans_140 : decode cX4_cleans 140 = .ok (.iaload, 1) := dk_46 (dk_at dksX4_cleans_6 0 rfl rfl)
theorem dX4_cleans_141 : decode cX4_cleans 141 = .ok (.iload_n 1, 1) := dk_27 (dk_at dksX4_cleans_6 1 rfl rfl)
theorem dX4_cleans_142 : decode cX4_cleans 142 = .ok (.iadd, 1) := dk_96 (dk_at dksX4_cleans_6 2 rfl rfl)
theorem dX4_cleans_143 : decode cX4_cleans 143 = .ok (.iastore, 1) := dk_79 (dk_at dksX4_cleans_6 3 rfl rfl)
theorem dX4_cleans_144 : decode cX4_cleans 144 = .ok (.iload_n 1, 1) := dk_27 (dk_at dksX4_cleans_6 4 rfl rfl)
theorem dX4_cleans_145 : decode cX4_cleans 145 = .ok (.ireturn, 1) := dk_172 (dk_at dksX4_cleans_6 5 rfl rfl)
abbrev cX4_grounds : ByteArray := prog_14_method_18_code
def yX4_grounds : MethodName := ⟨RX4, "grounds", "()I"⟩
def dkwX4_grounds_7 : List UInt8 := [153, 0, 7, 3, 167, 0, 4, 4, 96, 61, 132, 3, 1, 167, 255, 226, 28, 172]
abbrev dktX4_grounds_7 : List UInt8 := dkwX4_grounds_7 ++ []
def dkwX4_grounds_6 : List UInt8 := [167, 255, 160, 3, 61, 3, 62, 29, 42, 180, 0, 7, 4, 46, 162, 0, 26, 28, 42, 180, 0, 46, 29, 51]
abbrev dktX4_grounds_6 : List UInt8 := dkwX4_grounds_6 ++ dktX4_grounds_7
def dkwX4_grounds_5 : List UInt8 := [182, 0, 131, 154, 0, 6, 167, 0, 12, 42, 180, 0, 46, 29, 4, 84, 4, 60, 132, 2, 1, 167, 255, 171]
abbrev dktX4_grounds_5 : List UInt8 := dkwX4_grounds_5 ++ dktX4_grounds_6
def dkwX4_grounds_4 : List UInt8 := [154, 0, 41, 42, 42, 28, 4, 182, 0, 120, 182, 0, 131, 153, 0, 28, 42, 42, 28, 5, 182, 0, 120]
abbrev dktX4_grounds_4 : List UInt8 := dkwX4_grounds_4 ++ dktX4_grounds_5
def dkwX4_grounds_3 : List UInt8 := [2, 160, 0, 6, 167, 0, 61, 42, 42, 28, 6, 182, 0, 120, 182, 0, 128, 62, 42, 180, 0, 46, 29, 51]
abbrev dktX4_grounds_3 : List UInt8 := dkwX4_grounds_3 ++ dktX4_grounds_4
def dkwX4_grounds_2 : List UInt8 := [153, 0, 98, 3, 60, 3, 61, 28, 42, 180, 0, 7, 16, 6, 46, 162, 0, 80, 42, 28, 6, 182, 0, 120]
abbrev dktX4_grounds_2 : List UInt8 := dkwX4_grounds_2 ++ dktX4_grounds_3
def dkwX4_grounds_1 : List UInt8 := [27, 96, 46, 4, 160, 0, 7, 4, 167, 0, 4, 3, 84, 132, 1, 1, 167, 255, 218, 4, 60, 27]
abbrev dktX4_grounds_1 : List UInt8 := dkwX4_grounds_1 ++ dktX4_grounds_2
def dkwX4_grounds_0 : List UInt8 := [3, 60, 27, 42, 180, 0, 7, 4, 46, 162, 0, 34, 42, 180, 0, 46, 27, 42, 180, 0, 7, 17, 0, 175]
abbrev dktX4_grounds_0 : List UInt8 := dkwX4_grounds_0 ++ dktX4_grounds_1
theorem dksX4_grounds_0 : cX4_grounds.data.toList.drop 0 = dktX4_grounds_0 := by decide +kernel
theorem dksX4_grounds_1 : cX4_grounds.data.toList.drop 24 = dktX4_grounds_1 := dk_seg dksX4_grounds_0 24 rfl rfl
theorem dksX4_grounds_2 : cX4_grounds.data.toList.drop 46 = dktX4_grounds_2 := dk_seg dksX4_grounds_1 22 rfl rfl
theorem dksX4_grounds_3 : cX4_grounds.data.toList.drop 70 = dktX4_grounds_3 := dk_seg dksX4_grounds_2 24 rfl rfl
theorem dksX4_grounds_4 : cX4_grounds.data.toList.drop 94 = dktX4_grounds_4 := dk_seg dksX4_grounds_3 24 rfl rfl
theorem dksX4_grounds_5 : cX4_grounds.data.toList.drop 117 = dktX4_grounds_5 := dk_seg dksX4_grounds_4 23 rfl rfl
theorem dksX4_grounds_6 : cX4_grounds.data.toList.drop 141 = dktX4_grounds_6 := dk_seg dksX4_grounds_5 24 rfl rfl
theorem dksX4_grounds_7 : cX4_grounds.data.toList.drop 165 = dktX4_grounds_7 := dk_seg dksX4_grounds_6 24 rfl rfl
theorem dX4_grounds_0 : decode cX4_grounds 0 = .ok (.iconst 0, 1) := dk_3 (dk_at dksX4_grounds_0 0 rfl rfl)
theorem dX4_grounds_1 : decode cX4_grounds 1 = .ok (.istore_n 1, 1) := dk_60 (dk_at dksX4_grounds_0 1 rfl rfl)
theorem dX4_grounds_2 : decode cX4_grounds 2 = .ok (.iload_n 1, 1) := dk_27 (dk_at dksX4_grounds_0 2 rfl rfl)
theorem dX4_grounds_3 : decode cX4_grounds 3 = .ok (.aload_n 0, 1) := dk_42 (dk_at dksX4_grounds_0 3 rfl rfl)
theorem dX4_grounds_4 : decode cX4_grounds 4 = .ok (.getfield 7, 3) := dk_180 0 7 (dk_at dksX4_grounds_0 4 rfl rfl)
theorem dX4_grounds_7 : decode cX4_grounds 7 = .ok (.iconst 1, 1) := dk_4 (dk_at dksX4_grounds_0 7 rfl rfl)
theorem dX4_grounds_8 : decode cX4_grounds 8 = .ok (.iaload, 1) := dk_46 (dk_at dksX4_grounds_0 8 rfl rfl)
theorem dX4_grounds_9 : decode cX4_grounds 9 = .ok (.if_icmp .ge 34, 3) := dk_162 0 34 (dk_at dksX4_grounds_0 9 rfl rfl)
theorem dX4_grounds_12 : decode cX4_grounds 12 = .ok (.aload_n 0, 1) := dk_42 (dk_at dksX4_grounds_0 12 rfl rfl)
theorem dX4_grounds_13 : decode cX4_grounds 13 = .ok (.getfield 46, 3) := dk_180 0 46 (dk_at dksX4_grounds_0 13 rfl rfl)
theorem dX4_grounds_16 : decode cX4_grounds 16 = .ok (.iload_n 1, 1) := dk_27 (dk_at dksX4_grounds_0 16 rfl rfl)
theorem dX4_grounds_17 : decode cX4_grounds 17 = .ok (.aload_n 0, 1) := dk_42 (dk_at dksX4_grounds_0 17 rfl rfl)
theorem dX4_grounds_18 : decode cX4_grounds 18 = .ok (.getfield 7, 3) := dk_180 0 7 (dk_at dksX4_grounds_0 18 rfl rfl)
theorem dX4_grounds_21 : decode cX4_grounds 21 = .ok (.sipush 175, 3) := dk_17 0 175 (dk_at dksX4_grounds_0 21 rfl rfl)
theorem dX4_grounds_24 : decode cX4_grounds 24 = .ok (.iload_n 1, 1) := dk_27 (dk_at dksX4_grounds_1 0 rfl rfl)
theorem dX4_grounds_25 : decode cX4_grounds 25 = .ok (.iadd, 1) := dk_96 (dk_at dksX4_grounds_1 1 rfl rfl)
theorem dX4_grounds_26 : decode cX4_grounds 26 = .ok (.iaload, 1) := dk_46 (dk_at dksX4_grounds_1 2 rfl rfl)
theorem dX4_grounds_27 : decode cX4_grounds 27 = .ok (.iconst 1, 1) := dk_4 (dk_at dksX4_grounds_1 3 rfl rfl)
theorem dX4_grounds_28 : decode cX4_grounds 28 = .ok (.if_icmp .ne 7, 3) := dk_160 0 7 (dk_at dksX4_grounds_1 4 rfl rfl)
theorem dX4_grounds_31 : decode cX4_grounds 31 = .ok (.iconst 1, 1) := dk_4 (dk_at dksX4_grounds_1 7 rfl rfl)
theorem dX4_grounds_32 : decode cX4_grounds 32 = .ok (.goto 4, 3) := dk_167 0 4 (dk_at dksX4_grounds_1 8 rfl rfl)
theorem dX4_grounds_35 : decode cX4_grounds 35 = .ok (.iconst 0, 1) := dk_3 (dk_at dksX4_grounds_1 11 rfl rfl)
theorem dX4_grounds_36 : decode cX4_grounds 36 = .ok (.bastore, 1) := dk_84 (dk_at dksX4_grounds_1 12 rfl rfl)
theorem dX4_grounds_37 : decode cX4_grounds 37 = .ok (.iinc 1 1, 3) := dk_132 1 1 (dk_at dksX4_grounds_1 13 rfl rfl)
theorem dX4_grounds_40 : decode cX4_grounds 40 = .ok (.goto (-38), 3) := dk_167 255 218 (dk_at dksX4_grounds_1 16 rfl rfl)
theorem dX4_grounds_43 : decode cX4_grounds 43 = .ok (.iconst 1, 1) := dk_4 (dk_at dksX4_grounds_1 19 rfl rfl)
theorem dX4_grounds_44 : decode cX4_grounds 44 = .ok (.istore_n 1, 1) := dk_60 (dk_at dksX4_grounds_1 20 rfl rfl)
theorem dX4_grounds_45 : decode cX4_grounds 45 = .ok (.iload_n 1, 1) := dk_27 (dk_at dksX4_grounds_1 21 rfl rfl)
theorem dX4_grounds_46 : decode cX4_grounds 46 = .ok (.ifCond .eq 98, 3) := dk_153 0 98 (dk_at dksX4_grounds_2 0 rfl rfl)
theorem dX4_grounds_49 : decode cX4_grounds 49 = .ok (.iconst 0, 1) := dk_3 (dk_at dksX4_grounds_2 3 rfl rfl)
theorem dX4_grounds_50 : decode cX4_grounds 50 = .ok (.istore_n 1, 1) := dk_60 (dk_at dksX4_grounds_2 4 rfl rfl)
theorem dX4_grounds_51 : decode cX4_grounds 51 = .ok (.iconst 0, 1) := dk_3 (dk_at dksX4_grounds_2 5 rfl rfl)
theorem dX4_grounds_52 : decode cX4_grounds 52 = .ok (.istore_n 2, 1) := dk_61 (dk_at dksX4_grounds_2 6 rfl rfl)
theorem dX4_grounds_53 : decode cX4_grounds 53 = .ok (.iload_n 2, 1) := dk_28 (dk_at dksX4_grounds_2 7 rfl rfl)
theorem dX4_grounds_54 : decode cX4_grounds 54 = .ok (.aload_n 0, 1) := dk_42 (dk_at dksX4_grounds_2 8 rfl rfl)
theorem dX4_grounds_55 : decode cX4_grounds 55 = .ok (.getfield 7, 3) := dk_180 0 7 (dk_at dksX4_grounds_2 9 rfl rfl)
theorem dX4_grounds_58 : decode cX4_grounds 58 = .ok (.bipush 6, 2) := dk_16 6 (dk_at dksX4_grounds_2 12 rfl rfl)
theorem dX4_grounds_60 : decode cX4_grounds 60 = .ok (.iaload, 1) := dk_46 (dk_at dksX4_grounds_2 14 rfl rfl)
theorem dX4_grounds_61 : decode cX4_grounds 61 = .ok (.if_icmp .ge 80, 3) := dk_162 0 80 (dk_at dksX4_grounds_2 15 rfl rfl)
theorem dX4_grounds_64 : decode cX4_grounds 64 = .ok (.aload_n 0, 1) := dk_42 (dk_at dksX4_grounds_2 18 rfl rfl)
theorem dX4_grounds_65 : decode cX4_grounds 65 = .ok (.iload_n 2, 1) := dk_28 (dk_at dksX4_grounds_2 19 rfl rfl)
theorem dX4_grounds_66 : decode cX4_grounds 66 = .ok (.iconst 3, 1) := dk_6 (dk_at dksX4_grounds_2 20 rfl rfl)
theorem dX4_grounds_67 : decode cX4_grounds 67 = .ok (.invokevirtual 120, 3) := dk_182 0 120 (dk_at dksX4_grounds_2 21 rfl rfl)
theorem dX4_grounds_70 : decode cX4_grounds 70 = .ok (.iconst (-1), 1) := dk_2 (dk_at dksX4_grounds_3 0 rfl rfl)
theorem dX4_grounds_71 : decode cX4_grounds 71 = .ok (.if_icmp .ne 6, 3) := dk_160 0 6 (dk_at dksX4_grounds_3 1 rfl rfl)
theorem dX4_grounds_74 : decode cX4_grounds 74 = .ok (.goto 61, 3) := dk_167 0 61 (dk_at dksX4_grounds_3 4 rfl rfl)
theorem dX4_grounds_77 : decode cX4_grounds 77 = .ok (.aload_n 0, 1) := dk_42 (dk_at dksX4_grounds_3 7 rfl rfl)
theorem dX4_grounds_78 : decode cX4_grounds 78 = .ok (.aload_n 0, 1) := dk_42 (dk_at dksX4_grounds_3 8 rfl rfl)
theorem dX4_grounds_79 : decode cX4_grounds 79 = .ok (.iload_n 2, 1) := dk_28 (dk_at dksX4_grounds_3 9 rfl rfl)
theorem dX4_grounds_80 : decode cX4_grounds 80 = .ok (.iconst 3, 1) := dk_6 (dk_at dksX4_grounds_3 10 rfl rfl)
theorem dX4_grounds_81 : decode cX4_grounds 81 = .ok (.invokevirtual 120, 3) := dk_182 0 120 (dk_at dksX4_grounds_3 11 rfl rfl)
theorem dX4_grounds_84 : decode cX4_grounds 84 = .ok (.invokevirtual 128, 3) := dk_182 0 128 (dk_at dksX4_grounds_3 14 rfl rfl)
theorem dX4_grounds_87 : decode cX4_grounds 87 = .ok (.istore_n 3, 1) := dk_62 (dk_at dksX4_grounds_3 17 rfl rfl)
theorem dX4_grounds_88 : decode cX4_grounds 88 = .ok (.aload_n 0, 1) := dk_42 (dk_at dksX4_grounds_3 18 rfl rfl)
theorem dX4_grounds_89 : decode cX4_grounds 89 = .ok (.getfield 46, 3) := dk_180 0 46 (dk_at dksX4_grounds_3 19 rfl rfl)
theorem dX4_grounds_92 : decode cX4_grounds 92 = .ok (.iload_n 3, 1) := dk_29 (dk_at dksX4_grounds_3 22 rfl rfl)
theorem dX4_grounds_93 : decode cX4_grounds 93 = .ok (.baload, 1) := dk_51 (dk_at dksX4_grounds_3 23 rfl rfl)
theorem dX4_grounds_94 : decode cX4_grounds 94 = .ok (.ifCond .ne 41, 3) := dk_154 0 41 (dk_at dksX4_grounds_4 0 rfl rfl)
theorem dX4_grounds_97 : decode cX4_grounds 97 = .ok (.aload_n 0, 1) := dk_42 (dk_at dksX4_grounds_4 3 rfl rfl)
theorem dX4_grounds_98 : decode cX4_grounds 98 = .ok (.aload_n 0, 1) := dk_42 (dk_at dksX4_grounds_4 4 rfl rfl)
theorem dX4_grounds_99 : decode cX4_grounds 99 = .ok (.iload_n 2, 1) := dk_28 (dk_at dksX4_grounds_4 5 rfl rfl)
theorem dX4_grounds_100 : decode cX4_grounds 100 = .ok (.iconst 1, 1) := dk_4 (dk_at dksX4_grounds_4 6 rfl rfl)
theorem dX4_grounds_101 : decode cX4_grounds 101 = .ok (.invokevirtual 120, 3) := dk_182 0 120 (dk_at dksX4_grounds_4 7 rfl rfl)
theorem dX4_grounds_104 : decode cX4_grounds 104 = .ok (.invokevirtual 131, 3) := dk_182 0 131 (dk_at dksX4_grounds_4 10 rfl rfl)
theorem dX4_grounds_107 : decode cX4_grounds 107 = .ok (.ifCond .eq 28, 3) := dk_153 0 28 (dk_at dksX4_grounds_4 13 rfl rfl)
theorem dX4_grounds_110 : decode cX4_grounds 110 = .ok (.aload_n 0, 1) := dk_42 (dk_at dksX4_grounds_4 16 rfl rfl)
theorem dX4_grounds_111 : decode cX4_grounds 111 = .ok (.aload_n 0, 1) := dk_42 (dk_at dksX4_grounds_4 17 rfl rfl)
theorem dX4_grounds_112 : decode cX4_grounds 112 = .ok (.iload_n 2, 1) := dk_28 (dk_at dksX4_grounds_4 18 rfl rfl)
theorem dX4_grounds_113 : decode cX4_grounds 113 = .ok (.iconst 2, 1) := dk_5 (dk_at dksX4_grounds_4 19 rfl rfl)
theorem dX4_grounds_114 : decode cX4_grounds 114 = .ok (.invokevirtual 120, 3) := dk_182 0 120 (dk_at dksX4_grounds_4 20 rfl rfl)
theorem dX4_grounds_117 : decode cX4_grounds 117 = .ok (.invokevirtual 131, 3) := dk_182 0 131 (dk_at dksX4_grounds_5 0 rfl rfl)
theorem dX4_grounds_120 : decode cX4_grounds 120 = .ok (.ifCond .ne 6, 3) := dk_154 0 6 (dk_at dksX4_grounds_5 3 rfl rfl)
theorem dX4_grounds_123 : decode cX4_grounds 123 = .ok (.goto 12, 3) := dk_167 0 12 (dk_at dksX4_grounds_5 6 rfl rfl)
theorem dX4_grounds_126 : decode cX4_grounds 126 = .ok (.aload_n 0, 1) := dk_42 (dk_at dksX4_grounds_5 9 rfl rfl)
theorem dX4_grounds_127 : decode cX4_grounds 127 = .ok (.getfield 46, 3) := dk_180 0 46 (dk_at dksX4_grounds_5 10 rfl rfl)
theorem dX4_grounds_130 : decode cX4_grounds 130 = .ok (.iload_n 3, 1) := dk_29 (dk_at dksX4_grounds_5 13 rfl rfl)
theorem dX4_grounds_131 : decode cX4_grounds 131 = .ok (.iconst 1, 1) := dk_4 (dk_at dksX4_grounds_5 14 rfl rfl)
theorem dX4_grounds_132 : decode cX4_grounds 132 = .ok (.bastore, 1) := dk_84 (dk_at dksX4_grounds_5 15 rfl rfl)
theorem dX4_grounds_133 : decode cX4_grounds 133 = .ok (.iconst 1, 1) := dk_4 (dk_at dksX4_grounds_5 16 rfl rfl)
theorem dX4_grounds_134 : decode cX4_grounds 134 = .ok (.istore_n 1, 1) := dk_60 (dk_at dksX4_grounds_5 17 rfl rfl)
theorem dX4_grounds_135 : decode cX4_grounds 135 = .ok (.iinc 2 1, 3) := dk_132 2 1 (dk_at dksX4_grounds_5 18 rfl rfl)
theorem dX4_grounds_138 : decode cX4_grounds 138 = .ok (.goto (-85), 3) := dk_167 255 171 (dk_at dksX4_grounds_5 21 rfl rfl)
theorem dX4_grounds_141 : decode cX4_grounds 141 = .ok (.goto (-96), 3) := dk_167 255 160 (dk_at dksX4_grounds_6 0 rfl rfl)
theorem dX4_grounds_144 : decode cX4_grounds 144 = .ok (.iconst 0, 1) := dk_3 (dk_at dksX4_grounds_6 3 rfl rfl)
theorem dX4_grounds_145 : decode cX4_grounds 145 = .ok (.istore_n 2, 1) := dk_61 (dk_at dksX4_grounds_6 4 rfl rfl)
theorem dX4_grounds_146 : decode cX4_grounds 146 = .ok (.iconst 0, 1) := dk_3 (dk_at dksX4_grounds_6 5 rfl rfl)
theorem dX4_grounds_147 : decode cX4_grounds 147 = .ok (.istore_n 3, 1) := dk_62 (dk_at dksX4_grounds_6 6 rfl rfl)
theorem dX4_grounds_148 : decode cX4_grounds 148 = .ok (.iload_n 3, 1) := dk_29 (dk_at dksX4_grounds_6 7 rfl rfl)
theorem dX4_grounds_149 : decode cX4_grounds 149 = .ok (.aload_n 0, 1) := dk_42 (dk_at dksX4_grounds_6 8 rfl rfl)
theorem dX4_grounds_150 : decode cX4_grounds 150 = .ok (.getfield 7, 3) := dk_180 0 7 (dk_at dksX4_grounds_6 9 rfl rfl)
theorem dX4_grounds_153 : decode cX4_grounds 153 = .ok (.iconst 1, 1) := dk_4 (dk_at dksX4_grounds_6 12 rfl rfl)
theorem dX4_grounds_154 : decode cX4_grounds 154 = .ok (.iaload, 1) := dk_46 (dk_at dksX4_grounds_6 13 rfl rfl)
theorem dX4_grounds_155 : decode cX4_grounds 155 = .ok (.if_icmp .ge 26, 3) := dk_162 0 26 (dk_at dksX4_grounds_6 14 rfl rfl)
theorem dX4_grounds_158 : decode cX4_grounds 158 = .ok (.iload_n 2, 1) := dk_28 (dk_at dksX4_grounds_6 17 rfl rfl)
theorem dX4_grounds_159 : decode cX4_grounds 159 = .ok (.aload_n 0, 1) := dk_42 (dk_at dksX4_grounds_6 18 rfl rfl)
theorem dX4_grounds_160 : decode cX4_grounds 160 = .ok (.getfield 46, 3) := dk_180 0 46 (dk_at dksX4_grounds_6 19 rfl rfl)
theorem dX4_grounds_163 : decode cX4_grounds 163 = .ok (.iload_n 3, 1) := dk_29 (dk_at dksX4_grounds_6 22 rfl rfl)
theorem dX4_grounds_164 : decode cX4_grounds 164 = .ok (.baload, 1) := dk_51 (dk_at dksX4_grounds_6 23 rfl rfl)
theorem dX4_grounds_165 : decode cX4_grounds 165 = .ok (.ifCond .eq 7, 3) := dk_153 0 7 (dk_at dksX4_grounds_7 0 rfl rfl)
theorem dX4_grounds_168 : decode cX4_grounds 168 = .ok (.iconst 0, 1) := dk_3 (dk_at dksX4_grounds_7 3 rfl rfl)
theorem dX4_grounds_169 : decode cX4_grounds 169 = .ok (.goto 4, 3) := dk_167 0 4 (dk_at dksX4_grounds_7 4 rfl rfl)
theorem dX4_grounds_172 : decode cX4_grounds 172 = .ok (.iconst 1, 1) := dk_4 (dk_at dksX4_grounds_7 7 rfl rfl)
theorem dX4_grounds_173 : decode cX4_grounds 173 = .ok (.iadd, 1) := dk_96 (dk_at dksX4_grounds_7 8 rfl rfl)
theorem dX4_grounds_174 : decode cX4_grounds 174 = .ok (.istore_n 2, 1) := dk_61 (dk_at dksX4_grounds_7 9 rfl rfl)
theorem dX4_grounds_175 : decode cX4_grounds 175 = .ok (.iinc 3 1, 3) := dk_132 3 1 (dk_at dksX4_grounds_7 10 rfl rfl)
theorem dX4_grounds_178 : decode cX4_grounds 178 = .ok (.goto (-30), 3) := dk_167 255 226 (dk_at dksX4_grounds_7 13 rfl rfl)
theorem dX4_grounds_181 : decode cX4_grounds 181 = .ok (.iload_n 2, 1) := dk_28 (dk_at dksX4_grounds_7 16 rfl rfl)
theorem dX4_grounds_182 : decode cX4_grounds 182 = .ok (.ireturn, 1) := dk_172 (dk_at dksX4_grounds_7 17 rfl rfl)
abbrev cX4_slotOf : ByteArray := prog_14_method_10_code
def yX4_slotOf : MethodName := ⟨RX4, "slotOf", "(I)I"⟩
def dkwX4_slotOf_1 : List UInt8 := [160, 0, 5, 28, 172, 132, 2, 1, 167, 255, 228, 2, 172]
abbrev dktX4_slotOf_1 : List UInt8 := dkwX4_slotOf_1 ++ []
def dkwX4_slotOf_0 : List UInt8 := [3, 61, 28, 42, 180, 0, 7, 4, 46, 162, 0, 24, 42, 180, 0, 7, 16, 95, 28, 96, 46, 27]
abbrev dktX4_slotOf_0 : List UInt8 := dkwX4_slotOf_0 ++ dktX4_slotOf_1
theorem dksX4_slotOf_0 : cX4_slotOf.data.toList.drop 0 = dktX4_slotOf_0 := by decide +kernel
theorem dksX4_slotOf_1 : cX4_slotOf.data.toList.drop 22 = dktX4_slotOf_1 := dk_seg dksX4_slotOf_0 22 rfl rfl
theorem dX4_slotOf_0 : decode cX4_slotOf 0 = .ok (.iconst 0, 1) := dk_3 (dk_at dksX4_slotOf_0 0 rfl rfl)
theorem dX4_slotOf_1 : decode cX4_slotOf 1 = .ok (.istore_n 2, 1) := dk_61 (dk_at dksX4_slotOf_0 1 rfl rfl)
theorem dX4_slotOf_2 : decode cX4_slotOf 2 = .ok (.iload_n 2, 1) := dk_28 (dk_at dksX4_slotOf_0 2 rfl rfl)
theorem dX4_slotOf_3 : decode cX4_slotOf 3 = .ok (.aload_n 0, 1) := dk_42 (dk_at dksX4_slotOf_0 3 rfl rfl)
theorem dX4_slotOf_4 : decode cX4_slotOf 4 = .ok (.getfield 7, 3) := dk_180 0 7 (dk_at dksX4_slotOf_0 4 rfl rfl)
theorem dX4_slotOf_7 : decode cX4_slotOf 7 = .ok (.iconst 1, 1) := dk_4 (dk_at dksX4_slotOf_0 7 rfl rfl)
theorem dX4_slotOf_8 : decode cX4_slotOf 8 = .ok (.iaload, 1) := dk_46 (dk_at dksX4_slotOf_0 8 rfl rfl)
theorem dX4_slotOf_9 : decode cX4_slotOf 9 = .ok (.if_icmp .ge 24, 3) := dk_162 0 24 (dk_at dksX4_slotOf_0 9 rfl rfl)
theorem dX4_slotOf_12 : decode cX4_slotOf 12 = .ok (.aload_n 0, 1) := dk_42 (dk_at dksX4_slotOf_0 12 rfl rfl)
theorem dX4_slotOf_13 : decode cX4_slotOf 13 = .ok (.getfield 7, 3) := dk_180 0 7 (dk_at dksX4_slotOf_0 13 rfl rfl)
theorem dX4_slotOf_16 : decode cX4_slotOf 16 = .ok (.bipush 95, 2) := dk_16 95 (dk_at dksX4_slotOf_0 16 rfl rfl)
theorem dX4_slotOf_18 : decode cX4_slotOf 18 = .ok (.iload_n 2, 1) := dk_28 (dk_at dksX4_slotOf_0 18 rfl rfl)
theorem dX4_slotOf_19 : decode cX4_slotOf 19 = .ok (.iadd, 1) := dk_96 (dk_at dksX4_slotOf_0 19 rfl rfl)
theorem dX4_slotOf_20 : decode cX4_slotOf 20 = .ok (.iaload, 1) := dk_46 (dk_at dksX4_slotOf_0 20 rfl rfl)
theorem dX4_slotOf_21 : decode cX4_slotOf 21 = .ok (.iload_n 1, 1) := dk_27 (dk_at dksX4_slotOf_0 21 rfl rfl)
theorem dX4_slotOf_22 : decode cX4_slotOf 22 = .ok (.if_icmp .ne 5, 3) := dk_160 0 5 (dk_at dksX4_slotOf_1 0 rfl rfl)
theorem dX4_slotOf_25 : decode cX4_slotOf 25 = .ok (.iload_n 2, 1) := dk_28 (dk_at dksX4_slotOf_1 3 rfl rfl)
theorem dX4_slotOf_26 : decode cX4_slotOf 26 = .ok (.ireturn, 1) := dk_172 (dk_at dksX4_slotOf_1 4 rfl rfl)
theorem dX4_slotOf_27 : decode cX4_slotOf 27 = .ok (.iinc 2 1, 3) := dk_132 2 1 (dk_at dksX4_slotOf_1 5 rfl rfl)
theorem dX4_slotOf_30 : decode cX4_slotOf 30 = .ok (.goto (-28), 3) := dk_167 255 228 (dk_at dksX4_slotOf_1 8 rfl rfl)
theorem dX4_slotOf_33 : decode cX4_slotOf 33 = .ok (.iconst (-1), 1) := dk_2 (dk_at dksX4_slotOf_1 11 rfl rfl)
theorem dX4_slotOf_34 : decode cX4_slotOf 34 = .ok (.ireturn, 1) := dk_172 (dk_at dksX4_slotOf_1 12 rfl rfl)
abbrev cX4_isGrounded : ByteArray := prog_14_method_17_code
def yX4_isGrounded : MethodName := ⟨RX4, "isGrounded", "(I)Z"⟩
def dkwX4_isGrounded_0 : List UInt8 := [27, 2, 159, 0, 16, 42, 180, 0, 46, 42, 27, 182, 0, 128, 51, 153, 0, 7, 4, 167, 0, 4, 3, 172]
abbrev dktX4_isGrounded_0 : List UInt8 := dkwX4_isGrounded_0 ++ []
theorem dksX4_isGrounded_0 : cX4_isGrounded.data.toList.drop 0 = dktX4_isGrounded_0 := by decide +kernel
theorem dX4_isGrounded_0 : decode cX4_isGrounded 0 = .ok (.iload_n 1, 1) := dk_27 (dk_at dksX4_isGrounded_0 0 rfl rfl)
theorem dX4_isGrounded_1 : decode cX4_isGrounded 1 = .ok (.iconst (-1), 1) := dk_2 (dk_at dksX4_isGrounded_0 1 rfl rfl)
theorem dX4_isGrounded_2 : decode cX4_isGrounded 2 = .ok (.if_icmp .eq 16, 3) := dk_159 0 16 (dk_at dksX4_isGrounded_0 2 rfl rfl)
theorem dX4_isGrounded_5 : decode cX4_isGrounded 5 = .ok (.aload_n 0, 1) := dk_42 (dk_at dksX4_isGrounded_0 5 rfl rfl)
theorem dX4_isGrounded_6 : decode cX4_isGrounded 6 = .ok (.getfield 46, 3) := dk_180 0 46 (dk_at dksX4_isGrounded_0 6 rfl rfl)
theorem dX4_isGrounded_9 : decode cX4_isGrounded 9 = .ok (.aload_n 0, 1) := dk_42 (dk_at dksX4_isGrounded_0 9 rfl rfl)
theorem dX4_isGrounded_10 : decode cX4_isGrounded 10 = .ok (.iload_n 1, 1) := dk_27 (dk_at dksX4_isGrounded_0 10 rfl rfl)
theorem dX4_isGrounded_11 : decode cX4_isGrounded 11 = .ok (.invokevirtual 128, 3) := dk_182 0 128 (dk_at dksX4_isGrounded_0 11 rfl rfl)
theorem dX4_isGrounded_14 : decode cX4_isGrounded 14 = .ok (.baload, 1) := dk_51 (dk_at dksX4_isGrounded_0 14 rfl rfl)
theorem dX4_isGrounded_15 : decode cX4_isGrounded 15 = .ok (.ifCond .eq 7, 3) := dk_153 0 7 (dk_at dksX4_isGrounded_0 15 rfl rfl)
theorem dX4_isGrounded_18 : decode cX4_isGrounded 18 = .ok (.iconst 1, 1) := dk_4 (dk_at dksX4_isGrounded_0 18 rfl rfl)
theorem dX4_isGrounded_19 : decode cX4_isGrounded 19 = .ok (.goto 4, 3) := dk_167 0 4 (dk_at dksX4_isGrounded_0 19 rfl rfl)
theorem dX4_isGrounded_22 : decode cX4_isGrounded 22 = .ok (.iconst 0, 1) := dk_3 (dk_at dksX4_isGrounded_0 22 rfl rfl)
theorem dX4_isGrounded_23 : decode cX4_isGrounded 23 = .ok (.ireturn, 1) := dk_172 (dk_at dksX4_isGrounded_0 23 rfl rfl)
abbrev cX4_movesFact : ByteArray := prog_14_method_20_code
def yX4_movesFact : MethodName := ⟨RX4, "movesFact", "(II)V"⟩
def dkwX4_movesFact_5 : List UInt8 := [180, 0, 7, 17, 0, 215, 28, 96, 42, 180, 0, 7, 17, 0, 215, 27, 96, 46, 79, 177]
abbrev dktX4_movesFact_5 : List UInt8 := dkwX4_movesFact_5 ++ []
def dkwX4_movesFact_4 : List UInt8 := [96, 46, 79, 42, 180, 0, 7, 17, 0, 195, 28, 96, 42, 180, 0, 7, 17, 0, 195, 27, 96, 46, 79, 42]
abbrev dktX4_movesFact_4 : List UInt8 := dkwX4_movesFact_4 ++ dktX4_movesFact_5
def dkwX4_movesFact_3 : List UInt8 := [17, 0, 155, 27, 96, 46, 79, 42, 180, 0, 7, 17, 0, 175, 28, 96, 42, 180, 0, 7, 17, 0, 175, 27]
abbrev dktX4_movesFact_3 : List UInt8 := dkwX4_movesFact_3 ++ dktX4_movesFact_4
def dkwX4_movesFact_2 : List UInt8 := [180, 0, 7, 17, 0, 135, 27, 96, 46, 79, 42, 180, 0, 7, 17, 0, 155, 28, 96, 42, 180, 0, 7]
abbrev dktX4_movesFact_2 : List UInt8 := dkwX4_movesFact_2 ++ dktX4_movesFact_3
def dkwX4_movesFact_1 : List UInt8 := [28, 96, 42, 180, 0, 7, 16, 115, 27, 96, 46, 79, 42, 180, 0, 7, 17, 0, 135, 28, 96, 42]
abbrev dktX4_movesFact_1 : List UInt8 := dkwX4_movesFact_1 ++ dktX4_movesFact_2
def dkwX4_movesFact_0 : List UInt8 := [42, 180, 0, 7, 16, 95, 28, 96, 42, 180, 0, 7, 16, 95, 27, 96, 46, 79, 42, 180, 0, 7, 16, 115]
abbrev dktX4_movesFact_0 : List UInt8 := dkwX4_movesFact_0 ++ dktX4_movesFact_1
theorem dksX4_movesFact_0 : cX4_movesFact.data.toList.drop 0 = dktX4_movesFact_0 := by decide +kernel
theorem dksX4_movesFact_1 : cX4_movesFact.data.toList.drop 24 = dktX4_movesFact_1 := dk_seg dksX4_movesFact_0 24 rfl rfl
theorem dksX4_movesFact_2 : cX4_movesFact.data.toList.drop 46 = dktX4_movesFact_2 := dk_seg dksX4_movesFact_1 22 rfl rfl
theorem dksX4_movesFact_3 : cX4_movesFact.data.toList.drop 69 = dktX4_movesFact_3 := dk_seg dksX4_movesFact_2 23 rfl rfl
theorem dksX4_movesFact_4 : cX4_movesFact.data.toList.drop 93 = dktX4_movesFact_4 := dk_seg dksX4_movesFact_3 24 rfl rfl
theorem dksX4_movesFact_5 : cX4_movesFact.data.toList.drop 117 = dktX4_movesFact_5 := dk_seg dksX4_movesFact_4 24 rfl rfl
theorem dX4_movesFact_0 : decode cX4_movesFact 0 = .ok (.aload_n 0, 1) := dk_42 (dk_at dksX4_movesFact_0 0 rfl rfl)
theorem dX4_movesFact_1 : decode cX4_movesFact 1 = .ok (.getfield 7, 3) := dk_180 0 7 (dk_at dksX4_movesFact_0 1 rfl rfl)
theorem dX4_movesFact_4 : decode cX4_movesFact 4 = .ok (.bipush 95, 2) := dk_16 95 (dk_at dksX4_movesFact_0 4 rfl rfl)
theorem dX4_movesFact_6 : decode cX4_movesFact 6 = .ok (.iload_n 2, 1) := dk_28 (dk_at dksX4_movesFact_0 6 rfl rfl)
theorem dX4_movesFact_7 : decode cX4_movesFact 7 = .ok (.iadd, 1) := dk_96 (dk_at dksX4_movesFact_0 7 rfl rfl)
theorem dX4_movesFact_8 : decode cX4_movesFact 8 = .ok (.aload_n 0, 1) := dk_42 (dk_at dksX4_movesFact_0 8 rfl rfl)
theorem dX4_movesFact_9 : decode cX4_movesFact 9 = .ok (.getfield 7, 3) := dk_180 0 7 (dk_at dksX4_movesFact_0 9 rfl rfl)
theorem dX4_movesFact_12 : decode cX4_movesFact 12 = .ok (.bipush 95, 2) := dk_16 95 (dk_at dksX4_movesFact_0 12 rfl rfl)
theorem dX4_movesFact_14 : decode cX4_movesFact 14 = .ok (.iload_n 1, 1) := dk_27 (dk_at dksX4_movesFact_0 14 rfl rfl)
theorem dX4_movesFact_15 : decode cX4_movesFact 15 = .ok (.iadd, 1) := dk_96 (dk_at dksX4_movesFact_0 15 rfl rfl)
theorem dX4_movesFact_16 : decode cX4_movesFact 16 = .ok (.iaload, 1) := dk_46 (dk_at dksX4_movesFact_0 16 rfl rfl)
theorem dX4_movesFact_17 : decode cX4_movesFact 17 = .ok (.iastore, 1) := dk_79 (dk_at dksX4_movesFact_0 17 rfl rfl)
theorem dX4_movesFact_18 : decode cX4_movesFact 18 = .ok (.aload_n 0, 1) := dk_42 (dk_at dksX4_movesFact_0 18 rfl rfl)
theorem dX4_movesFact_19 : decode cX4_movesFact 19 = .ok (.getfield 7, 3) := dk_180 0 7 (dk_at dksX4_movesFact_0 19 rfl rfl)
theorem dX4_movesFact_22 : decode cX4_movesFact 22 = .ok (.bipush 115, 2) := dk_16 115 (dk_at dksX4_movesFact_0 22 rfl rfl)
theorem dX4_movesFact_24 : decode cX4_movesFact 24 = .ok (.iload_n 2, 1) := dk_28 (dk_at dksX4_movesFact_1 0 rfl rfl)
theorem dX4_movesFact_25 : decode cX4_movesFact 25 = .ok (.iadd, 1) := dk_96 (dk_at dksX4_movesFact_1 1 rfl rfl)
theorem dX4_movesFact_26 : decode cX4_movesFact 26 = .ok (.aload_n 0, 1) := dk_42 (dk_at dksX4_movesFact_1 2 rfl rfl)
theorem dX4_movesFact_27 : decode cX4_movesFact 27 = .ok (.getfield 7, 3) := dk_180 0 7 (dk_at dksX4_movesFact_1 3 rfl rfl)
theorem dX4_movesFact_30 : decode cX4_movesFact 30 = .ok (.bipush 115, 2) := dk_16 115 (dk_at dksX4_movesFact_1 6 rfl rfl)
theorem dX4_movesFact_32 : decode cX4_movesFact 32 = .ok (.iload_n 1, 1) := dk_27 (dk_at dksX4_movesFact_1 8 rfl rfl)
theorem dX4_movesFact_33 : decode cX4_movesFact 33 = .ok (.iadd, 1) := dk_96 (dk_at dksX4_movesFact_1 9 rfl rfl)
theorem dX4_movesFact_34 : decode cX4_movesFact 34 = .ok (.iaload, 1) := dk_46 (dk_at dksX4_movesFact_1 10 rfl rfl)
theorem dX4_movesFact_35 : decode cX4_movesFact 35 = .ok (.iastore, 1) := dk_79 (dk_at dksX4_movesFact_1 11 rfl rfl)
theorem dX4_movesFact_36 : decode cX4_movesFact 36 = .ok (.aload_n 0, 1) := dk_42 (dk_at dksX4_movesFact_1 12 rfl rfl)
theorem dX4_movesFact_37 : decode cX4_movesFact 37 = .ok (.getfield 7, 3) := dk_180 0 7 (dk_at dksX4_movesFact_1 13 rfl rfl)
theorem dX4_movesFact_40 : decode cX4_movesFact 40 = .ok (.sipush 135, 3) := dk_17 0 135 (dk_at dksX4_movesFact_1 16 rfl rfl)
theorem dX4_movesFact_43 : decode cX4_movesFact 43 = .ok (.iload_n 2, 1) := dk_28 (dk_at dksX4_movesFact_1 19 rfl rfl)
theorem dX4_movesFact_44 : decode cX4_movesFact 44 = .ok (.iadd, 1) := dk_96 (dk_at dksX4_movesFact_1 20 rfl rfl)
theorem dX4_movesFact_45 : decode cX4_movesFact 45 = .ok (.aload_n 0, 1) := dk_42 (dk_at dksX4_movesFact_1 21 rfl rfl)
theorem dX4_movesFact_46 : decode cX4_movesFact 46 = .ok (.getfield 7, 3) := dk_180 0 7 (dk_at dksX4_movesFact_2 0 rfl rfl)
theorem dX4_movesFact_49 : decode cX4_movesFact 49 = .ok (.sipush 135, 3) := dk_17 0 135 (dk_at dksX4_movesFact_2 3 rfl rfl)
theorem dX4_movesFact_52 : decode cX4_movesFact 52 = .ok (.iload_n 1, 1) := dk_27 (dk_at dksX4_movesFact_2 6 rfl rfl)
theorem dX4_movesFact_53 : decode cX4_movesFact 53 = .ok (.iadd, 1) := dk_96 (dk_at dksX4_movesFact_2 7 rfl rfl)
theorem dX4_movesFact_54 : decode cX4_movesFact 54 = .ok (.iaload, 1) := dk_46 (dk_at dksX4_movesFact_2 8 rfl rfl)
theorem dX4_movesFact_55 : decode cX4_movesFact 55 = .ok (.iastore, 1) := dk_79 (dk_at dksX4_movesFact_2 9 rfl rfl)
theorem dX4_movesFact_56 : decode cX4_movesFact 56 = .ok (.aload_n 0, 1) := dk_42 (dk_at dksX4_movesFact_2 10 rfl rfl)
theorem dX4_movesFact_57 : decode cX4_movesFact 57 = .ok (.getfield 7, 3) := dk_180 0 7 (dk_at dksX4_movesFact_2 11 rfl rfl)
theorem dX4_movesFact_60 : decode cX4_movesFact 60 = .ok (.sipush 155, 3) := dk_17 0 155 (dk_at dksX4_movesFact_2 14 rfl rfl)
theorem dX4_movesFact_63 : decode cX4_movesFact 63 = .ok (.iload_n 2, 1) := dk_28 (dk_at dksX4_movesFact_2 17 rfl rfl)
theorem dX4_movesFact_64 : decode cX4_movesFact 64 = .ok (.iadd, 1) := dk_96 (dk_at dksX4_movesFact_2 18 rfl rfl)
theorem dX4_movesFact_65 : decode cX4_movesFact 65 = .ok (.aload_n 0, 1) := dk_42 (dk_at dksX4_movesFact_2 19 rfl rfl)
theorem dX4_movesFact_66 : decode cX4_movesFact 66 = .ok (.getfield 7, 3) := dk_180 0 7 (dk_at dksX4_movesFact_2 20 rfl rfl)
theorem dX4_movesFact_69 : decode cX4_movesFact 69 = .ok (.sipush 155, 3) := dk_17 0 155 (dk_at dksX4_movesFact_3 0 rfl rfl)
theorem dX4_movesFact_72 : decode cX4_movesFact 72 = .ok (.iload_n 1, 1) := dk_27 (dk_at dksX4_movesFact_3 3 rfl rfl)
theorem dX4_movesFact_73 : decode cX4_movesFact 73 = .ok (.iadd, 1) := dk_96 (dk_at dksX4_movesFact_3 4 rfl rfl)
theorem dX4_movesFact_74 : decode cX4_movesFact 74 = .ok (.iaload, 1) := dk_46 (dk_at dksX4_movesFact_3 5 rfl rfl)
theorem dX4_movesFact_75 : decode cX4_movesFact 75 = .ok (.iastore, 1) := dk_79 (dk_at dksX4_movesFact_3 6 rfl rfl)
theorem dX4_movesFact_76 : decode cX4_movesFact 76 = .ok (.aload_n 0, 1) := dk_42 (dk_at dksX4_movesFact_3 7 rfl rfl)
theorem dX4_movesFact_77 : decode cX4_movesFact 77 = .ok (.getfield 7, 3) := dk_180 0 7 (dk_at dksX4_movesFact_3 8 rfl rfl)
theorem dX4_movesFact_80 : decode cX4_movesFact 80 = .ok (.sipush 175, 3) := dk_17 0 175 (dk_at dksX4_movesFact_3 11 rfl rfl)
theorem dX4_movesFact_83 : decode cX4_movesFact 83 = .ok (.iload_n 2, 1) := dk_28 (dk_at dksX4_movesFact_3 14 rfl rfl)
theorem dX4_movesFact_84 : decode cX4_movesFact 84 = .ok (.iadd, 1) := dk_96 (dk_at dksX4_movesFact_3 15 rfl rfl)
theorem dX4_movesFact_85 : decode cX4_movesFact 85 = .ok (.aload_n 0, 1) := dk_42 (dk_at dksX4_movesFact_3 16 rfl rfl)
theorem dX4_movesFact_86 : decode cX4_movesFact 86 = .ok (.getfield 7, 3) := dk_180 0 7 (dk_at dksX4_movesFact_3 17 rfl rfl)
theorem dX4_movesFact_89 : decode cX4_movesFact 89 = .ok (.sipush 175, 3) := dk_17 0 175 (dk_at dksX4_movesFact_3 20 rfl rfl)
theorem dX4_movesFact_92 : decode cX4_movesFact 92 = .ok (.iload_n 1, 1) := dk_27 (dk_at dksX4_movesFact_3 23 rfl rfl)
theorem dX4_movesFact_93 : decode cX4_movesFact 93 = .ok (.iadd, 1) := dk_96 (dk_at dksX4_movesFact_4 0 rfl rfl)
theorem dX4_movesFact_94 : decode cX4_movesFact 94 = .ok (.iaload, 1) := dk_46 (dk_at dksX4_movesFact_4 1 rfl rfl)
theorem dX4_movesFact_95 : decode cX4_movesFact 95 = .ok (.iastore, 1) := dk_79 (dk_at dksX4_movesFact_4 2 rfl rfl)
theorem dX4_movesFact_96 : decode cX4_movesFact 96 = .ok (.aload_n 0, 1) := dk_42 (dk_at dksX4_movesFact_4 3 rfl rfl)
theorem dX4_movesFact_97 : decode cX4_movesFact 97 = .ok (.getfield 7, 3) := dk_180 0 7 (dk_at dksX4_movesFact_4 4 rfl rfl)
theorem dX4_movesFact_100 : decode cX4_movesFact 100 = .ok (.sipush 195, 3) := dk_17 0 195 (dk_at dksX4_movesFact_4 7 rfl rfl)
theorem dX4_movesFact_103 : decode cX4_movesFact 103 = .ok (.iload_n 2, 1) := dk_28 (dk_at dksX4_movesFact_4 10 rfl rfl)
theorem dX4_movesFact_104 : decode cX4_movesFact 104 = .ok (.iadd, 1) := dk_96 (dk_at dksX4_movesFact_4 11 rfl rfl)
theorem dX4_movesFact_105 : decode cX4_movesFact 105 = .ok (.aload_n 0, 1) := dk_42 (dk_at dksX4_movesFact_4 12 rfl rfl)
theorem dX4_movesFact_106 : decode cX4_movesFact 106 = .ok (.getfield 7, 3) := dk_180 0 7 (dk_at dksX4_movesFact_4 13 rfl rfl)
theorem dX4_movesFact_109 : decode cX4_movesFact 109 = .ok (.sipush 195, 3) := dk_17 0 195 (dk_at dksX4_movesFact_4 16 rfl rfl)
theorem dX4_movesFact_112 : decode cX4_movesFact 112 = .ok (.iload_n 1, 1) := dk_27 (dk_at dksX4_movesFact_4 19 rfl rfl)
theorem dX4_movesFact_113 : decode cX4_movesFact 113 = .ok (.iadd, 1) := dk_96 (dk_at dksX4_movesFact_4 20 rfl rfl)
theorem dX4_movesFact_114 : decode cX4_movesFact 114 = .ok (.iaload, 1) := dk_46 (dk_at dksX4_movesFact_4 21 rfl rfl)
theorem dX4_movesFact_115 : decode cX4_movesFact 115 = .ok (.iastore, 1) := dk_79 (dk_at dksX4_movesFact_4 22 rfl rfl)
theorem dX4_movesFact_116 : decode cX4_movesFact 116 = .ok (.aload_n 0, 1) := dk_42 (dk_at dksX4_movesFact_4 23 rfl rfl)
theorem dX4_movesFact_117 : decode cX4_movesFact 117 = .ok (.getfield 7, 3) := dk_180 0 7 (dk_at dksX4_movesFact_5 0 rfl rfl)
theorem dX4_movesFact_120 : decode cX4_movesFact 120 = .ok (.sipush 215, 3) := dk_17 0 215 (dk_at dksX4_movesFact_5 3 rfl rfl)
theorem dX4_movesFact_123 : decode cX4_movesFact 123 = .ok (.iload_n 2, 1) := dk_28 (dk_at dksX4_movesFact_5 6 rfl rfl)
theorem dX4_movesFact_124 : decode cX4_movesFact 124 = .ok (.iadd, 1) := dk_96 (dk_at dksX4_movesFact_5 7 rfl rfl)
theorem dX4_movesFact_125 : decode cX4_movesFact 125 = .ok (.aload_n 0, 1) := dk_42 (dk_at dksX4_movesFact_5 8 rfl rfl)
theorem dX4_movesFact_126 : decode cX4_movesFact 126 = .ok (.getfield 7, 3) := dk_180 0 7 (dk_at dksX4_movesFact_5 9 rfl rfl)
theorem dX4_movesFact_129 : decode cX4_movesFact 129 = .ok (.sipush 215, 3) := dk_17 0 215 (dk_at dksX4_movesFact_5 12 rfl rfl)
theorem dX4_movesFact_132 : decode cX4_movesFact 132 = .ok (.iload_n 1, 1) := dk_27 (dk_at dksX4_movesFact_5 15 rfl rfl)
theorem dX4_movesFact_133 : decode cX4_movesFact 133 = .ok (.iadd, 1) := dk_96 (dk_at dksX4_movesFact_5 16 rfl rfl)
theorem dX4_movesFact_134 : decode cX4_movesFact 134 = .ok (.iaload, 1) := dk_46 (dk_at dksX4_movesFact_5 17 rfl rfl)
theorem dX4_movesFact_135 : decode cX4_movesFact 135 = .ok (.iastore, 1) := dk_79 (dk_at dksX4_movesFact_5 18 rfl rfl)
theorem dX4_movesFact_136 : decode cX4_movesFact 136 = .ok (.return_, 1) := dk_177 (dk_at dksX4_movesFact_5 19 rfl rfl)
abbrev cX4_isThere : ByteArray := prog_14_method_21_code
def yX4_isThere : MethodName := ⟨RX4, "isThere", "(I)Z"⟩
def dkwX4_isThere_0 : List UInt8 := [27, 2, 159, 0, 12, 42, 27, 182, 0, 128, 2, 159, 0, 7, 4, 167, 0, 4, 3, 172]
abbrev dktX4_isThere_0 : List UInt8 := dkwX4_isThere_0 ++ []
theorem dksX4_isThere_0 : cX4_isThere.data.toList.drop 0 = dktX4_isThere_0 := by decide +kernel
theorem dX4_isThere_0 : decode cX4_isThere 0 = .ok (.iload_n 1, 1) := dk_27 (dk_at dksX4_isThere_0 0 rfl rfl)
theorem dX4_isThere_1 : decode cX4_isThere 1 = .ok (.iconst (-1), 1) := dk_2 (dk_at dksX4_isThere_0 1 rfl rfl)
theorem dX4_isThere_2 : decode cX4_isThere 2 = .ok (.if_icmp .eq 12, 3) := dk_159 0 12 (dk_at dksX4_isThere_0 2 rfl rfl)
theorem dX4_isThere_5 : decode cX4_isThere 5 = .ok (.aload_n 0, 1) := dk_42 (dk_at dksX4_isThere_0 5 rfl rfl)
theorem dX4_isThere_6 : decode cX4_isThere 6 = .ok (.iload_n 1, 1) := dk_27 (dk_at dksX4_isThere_0 6 rfl rfl)
theorem dX4_isThere_7 : decode cX4_isThere 7 = .ok (.invokevirtual 128, 3) := dk_182 0 128 (dk_at dksX4_isThere_0 7 rfl rfl)
theorem dX4_isThere_10 : decode cX4_isThere 10 = .ok (.iconst (-1), 1) := dk_2 (dk_at dksX4_isThere_0 10 rfl rfl)
theorem dX4_isThere_11 : decode cX4_isThere 11 = .ok (.if_icmp .eq 7, 3) := dk_159 0 7 (dk_at dksX4_isThere_0 11 rfl rfl)
theorem dX4_isThere_14 : decode cX4_isThere 14 = .ok (.iconst 1, 1) := dk_4 (dk_at dksX4_isThere_0 14 rfl rfl)
theorem dX4_isThere_15 : decode cX4_isThere 15 = .ok (.goto 4, 3) := dk_167 0 4 (dk_at dksX4_isThere_0 15 rfl rfl)
theorem dX4_isThere_18 : decode cX4_isThere 18 = .ok (.iconst 0, 1) := dk_3 (dk_at dksX4_isThere_0 18 rfl rfl)
theorem dX4_isThere_19 : decode cX4_isThere 19 = .ok (.ireturn, 1) := dk_172 (dk_at dksX4_isThere_0 19 rfl rfl)
abbrev cX4_tell : ByteArray := prog_14_method_46_code
def yX4_tell : MethodName := ⟨RX4, "tell", "(CIII)I"⟩
def dkwX4_tell_0 : List UInt8 := [42, 182, 0, 222, 42, 42, 27, 28, 29, 21, 4, 182, 0, 250, 5, 182, 0, 244, 172]
abbrev dktX4_tell_0 : List UInt8 := dkwX4_tell_0 ++ []
theorem dksX4_tell_0 : cX4_tell.data.toList.drop 0 = dktX4_tell_0 := by decide +kernel
theorem dX4_tell_0 : decode cX4_tell 0 = .ok (.aload_n 0, 1) := dk_42 (dk_at dksX4_tell_0 0 rfl rfl)
theorem dX4_tell_1 : decode cX4_tell 1 = .ok (.invokevirtual 222, 3) := dk_182 0 222 (dk_at dksX4_tell_0 1 rfl rfl)
theorem dX4_tell_4 : decode cX4_tell 4 = .ok (.aload_n 0, 1) := dk_42 (dk_at dksX4_tell_0 4 rfl rfl)
theorem dX4_tell_5 : decode cX4_tell 5 = .ok (.aload_n 0, 1) := dk_42 (dk_at dksX4_tell_0 5 rfl rfl)
theorem dX4_tell_6 : decode cX4_tell 6 = .ok (.iload_n 1, 1) := dk_27 (dk_at dksX4_tell_0 6 rfl rfl)
theorem dX4_tell_7 : decode cX4_tell 7 = .ok (.iload_n 2, 1) := dk_28 (dk_at dksX4_tell_0 7 rfl rfl)
theorem dX4_tell_8 : decode cX4_tell 8 = .ok (.iload_n 3, 1) := dk_29 (dk_at dksX4_tell_0 8 rfl rfl)
theorem dX4_tell_9 : decode cX4_tell 9 = .ok (.iload 4, 2) := dk_21 4 (dk_at dksX4_tell_0 9 rfl rfl)
theorem dX4_tell_11 : decode cX4_tell 11 = .ok (.invokevirtual 250, 3) := dk_182 0 250 (dk_at dksX4_tell_0 11 rfl rfl)
theorem dX4_tell_14 : decode cX4_tell 14 = .ok (.iconst 2, 1) := dk_5 (dk_at dksX4_tell_0 14 rfl rfl)
theorem dX4_tell_15 : decode cX4_tell 15 = .ok (.invokevirtual 244, 3) := dk_182 0 244 (dk_at dksX4_tell_0 15 rfl rfl)
theorem dX4_tell_18 : decode cX4_tell 18 = .ok (.ireturn, 1) := dk_172 (dk_at dksX4_tell_0 18 rfl rfl)
abbrev cX4_tells : ByteArray := prog_14_method_40_code
def yX4_tells : MethodName := ⟨RX4, "tells", "(IIII)I"⟩
def dkwX4_tells_7 : List UInt8 := [182, 0, 206, 172]
abbrev dktX4_tells_7 : List UInt8 := dkwX4_tells_7 ++ []
def dkwX4_tells_6 : List UInt8 := [180, 0, 7, 17, 0, 175, 21, 5, 96, 4, 79, 42, 42, 180, 0, 7, 16, 95, 21, 5, 96, 46]
abbrev dktX4_tells_6 : List UInt8 := dkwX4_tells_6 ++ dktX4_tells_7
def dkwX4_tells_5 : List UInt8 := [2, 160, 0, 22, 42, 42, 27, 28, 29, 4, 21, 4, 134, 18, 215, 110, 182, 0, 193, 182, 0, 206, 172, 42]
abbrev dktX4_tells_5 : List UInt8 := dkwX4_tells_5 ++ dktX4_tells_6
def dkwX4_tells_4 : List UInt8 := [160, 0, 22, 42, 180, 0, 7, 4, 46, 16, 20, 160, 0, 11, 42, 4, 16, 20, 182, 0, 203, 172, 21, 5]
abbrev dktX4_tells_4 : List UInt8 := dkwX4_tells_4 ++ dktX4_tells_5
def dkwX4_tells_3 : List UInt8 := [160, 0, 19, 42, 5, 42, 180, 0, 7, 16, 95, 21, 5, 96, 46, 182, 0, 203, 172, 21, 5, 2]
abbrev dktX4_tells_3 : List UInt8 := dkwX4_tells_3 ++ dktX4_tells_4
def dkwX4_tells_2 : List UInt8 := [29, 182, 0, 165, 54, 5, 21, 5, 2, 159, 0, 34, 42, 180, 0, 7, 17, 0, 175, 21, 5, 96, 46, 4]
abbrev dktX4_tells_2 : List UInt8 := dkwX4_tells_2 ++ dktX4_tells_3
def dkwX4_tells_1 : List UInt8 := [16, 9, 184, 0, 209, 153, 0, 14, 21, 4, 4, 16, 100, 184, 0, 209, 154, 0, 5, 2, 172, 42, 27, 28]
abbrev dktX4_tells_1 : List UInt8 := dkwX4_tells_1 ++ dktX4_tells_2
def dkwX4_tells_0 : List UInt8 := [27, 16, 97, 16, 102, 184, 0, 209, 153, 0, 34, 28, 3, 16, 9, 184, 0, 209, 153, 0, 24, 29, 3]
abbrev dktX4_tells_0 : List UInt8 := dkwX4_tells_0 ++ dktX4_tells_1
theorem dksX4_tells_0 : cX4_tells.data.toList.drop 0 = dktX4_tells_0 := by decide +kernel
theorem dksX4_tells_1 : cX4_tells.data.toList.drop 23 = dktX4_tells_1 := dk_seg dksX4_tells_0 23 rfl rfl
theorem dksX4_tells_2 : cX4_tells.data.toList.drop 47 = dktX4_tells_2 := dk_seg dksX4_tells_1 24 rfl rfl
theorem dksX4_tells_3 : cX4_tells.data.toList.drop 71 = dktX4_tells_3 := dk_seg dksX4_tells_2 24 rfl rfl
theorem dksX4_tells_4 : cX4_tells.data.toList.drop 93 = dktX4_tells_4 := dk_seg dksX4_tells_3 22 rfl rfl
theorem dksX4_tells_5 : cX4_tells.data.toList.drop 117 = dktX4_tells_5 := dk_seg dksX4_tells_4 24 rfl rfl
theorem dksX4_tells_6 : cX4_tells.data.toList.drop 141 = dktX4_tells_6 := dk_seg dksX4_tells_5 24 rfl rfl
theorem dksX4_tells_7 : cX4_tells.data.toList.drop 163 = dktX4_tells_7 := dk_seg dksX4_tells_6 22 rfl rfl
theorem dX4_tells_0 : decode cX4_tells 0 = .ok (.iload_n 1, 1) := dk_27 (dk_at dksX4_tells_0 0 rfl rfl)
theorem dX4_tells_1 : decode cX4_tells 1 = .ok (.bipush 97, 2) := dk_16 97 (dk_at dksX4_tells_0 1 rfl rfl)
theorem dX4_tells_3 : decode cX4_tells 3 = .ok (.bipush 102, 2) := dk_16 102 (dk_at dksX4_tells_0 3 rfl rfl)
theorem dX4_tells_5 : decode cX4_tells 5 = .ok (.invokestatic 209, 3) := dk_184 0 209 (dk_at dksX4_tells_0 5 rfl rfl)
theorem dX4_tells_8 : decode cX4_tells 8 = .ok (.ifCond .eq 34, 3) := dk_153 0 34 (dk_at dksX4_tells_0 8 rfl rfl)
theorem dX4_tells_11 : decode cX4_tells 11 = .ok (.iload_n 2, 1) := dk_28 (dk_at dksX4_tells_0 11 rfl rfl)
theorem dX4_tells_12 : decode cX4_tells 12 = .ok (.iconst 0, 1) := dk_3 (dk_at dksX4_tells_0 12 rfl rfl)
theorem dX4_tells_13 : decode cX4_tells 13 = .ok (.bipush 9, 2) := dk_16 9 (dk_at dksX4_tells_0 13 rfl rfl)
theorem dX4_tells_15 : decode cX4_tells 15 = .ok (.invokestatic 209, 3) := dk_184 0 209 (dk_at dksX4_tells_0 15 rfl rfl)
theorem dX4_tells_18 : decode cX4_tells 18 = .ok (.ifCond .eq 24, 3) := dk_153 0 24 (dk_at dksX4_tells_0 18 rfl rfl)
theorem dX4_tells_21 : decode cX4_tells 21 = .ok (.iload_n 3, 1) := dk_29 (dk_at dksX4_tells_0 21 rfl rfl)
theorem dX4_tells_22 : decode cX4_tells 22 = .ok (.iconst 0, 1) := dk_3 (dk_at dksX4_tells_0 22 rfl rfl)
theorem dX4_tells_23 : decode cX4_tells 23 = .ok (.bipush 9, 2) := dk_16 9 (dk_at dksX4_tells_1 0 rfl rfl)
theorem dX4_tells_25 : decode cX4_tells 25 = .ok (.invokestatic 209, 3) := dk_184 0 209 (dk_at dksX4_tells_1 2 rfl rfl)
theorem dX4_tells_28 : decode cX4_tells 28 = .ok (.ifCond .eq 14, 3) := dk_153 0 14 (dk_at dksX4_tells_1 5 rfl rfl)
theorem dX4_tells_31 : decode cX4_tells 31 = .ok (.iload 4, 2) := dk_21 4 (dk_at dksX4_tells_1 8 rfl rfl)
theorem dX4_tells_33 : decode cX4_tells 33 = .ok (.iconst 1, 1) := dk_4 (dk_at dksX4_tells_1 10 rfl rfl)
theorem dX4_tells_34 : decode cX4_tells 34 = .ok (.bipush 100, 2) := dk_16 100 (dk_at dksX4_tells_1 11 rfl rfl)
theorem dX4_tells_36 : decode cX4_tells 36 = .ok (.invokestatic 209, 3) := dk_184 0 209 (dk_at dksX4_tells_1 13 rfl rfl)
theorem dX4_tells_39 : decode cX4_tells 39 = .ok (.ifCond .ne 5, 3) := dk_154 0 5 (dk_at dksX4_tells_1 16 rfl rfl)
theorem dX4_tells_42 : decode cX4_tells 42 = .ok (.iconst (-1), 1) := dk_2 (dk_at dksX4_tells_1 19 rfl rfl)
theorem dX4_tells_43 : decode cX4_tells 43 = .ok (.ireturn, 1) := dk_172 (dk_at dksX4_tells_1 20 rfl rfl)
theorem dX4_tells_44 : decode cX4_tells 44 = .ok (.aload_n 0, 1) := dk_42 (dk_at dksX4_tells_1 21 rfl rfl)
theorem dX4_tells_45 : decode cX4_tells 45 = .ok (.iload_n 1, 1) := dk_27 (dk_at dksX4_tells_1 22 rfl rfl)
theorem dX4_tells_46 : decode cX4_tells 46 = .ok (.iload_n 2, 1) := dk_28 (dk_at dksX4_tells_1 23 rfl rfl)
theorem dX4_tells_47 : decode cX4_tells 47 = .ok (.iload_n 3, 1) := dk_29 (dk_at dksX4_tells_2 0 rfl rfl)
theorem dX4_tells_48 : decode cX4_tells 48 = .ok (.invokevirtual 165, 3) := dk_182 0 165 (dk_at dksX4_tells_2 1 rfl rfl)
theorem dX4_tells_51 : decode cX4_tells 51 = .ok (.istore 5, 2) := dk_54 5 (dk_at dksX4_tells_2 4 rfl rfl)
theorem dX4_tells_53 : decode cX4_tells 53 = .ok (.iload 5, 2) := dk_21 5 (dk_at dksX4_tells_2 6 rfl rfl)
theorem dX4_tells_55 : decode cX4_tells 55 = .ok (.iconst (-1), 1) := dk_2 (dk_at dksX4_tells_2 8 rfl rfl)
theorem dX4_tells_56 : decode cX4_tells 56 = .ok (.if_icmp .eq 34, 3) := dk_159 0 34 (dk_at dksX4_tells_2 9 rfl rfl)
theorem dX4_tells_59 : decode cX4_tells 59 = .ok (.aload_n 0, 1) := dk_42 (dk_at dksX4_tells_2 12 rfl rfl)
theorem dX4_tells_60 : decode cX4_tells 60 = .ok (.getfield 7, 3) := dk_180 0 7 (dk_at dksX4_tells_2 13 rfl rfl)
theorem dX4_tells_63 : decode cX4_tells 63 = .ok (.sipush 175, 3) := dk_17 0 175 (dk_at dksX4_tells_2 16 rfl rfl)
theorem dX4_tells_66 : decode cX4_tells 66 = .ok (.iload 5, 2) := dk_21 5 (dk_at dksX4_tells_2 19 rfl rfl)
theorem dX4_tells_68 : decode cX4_tells 68 = .ok (.iadd, 1) := dk_96 (dk_at dksX4_tells_2 21 rfl rfl)
theorem dX4_tells_69 : decode cX4_tells 69 = .ok (.iaload, 1) := dk_46 (dk_at dksX4_tells_2 22 rfl rfl)
theorem dX4_tells_70 : decode cX4_tells 70 = .ok (.iconst 1, 1) := dk_4 (dk_at dksX4_tells_2 23 rfl rfl)
theorem dX4_tells_71 : decode cX4_tells 71 = .ok (.if_icmp .ne 19, 3) := dk_160 0 19 (dk_at dksX4_tells_3 0 rfl rfl)
theorem dX4_tells_74 : decode cX4_tells 74 = .ok (.aload_n 0, 1) := dk_42 (dk_at dksX4_tells_3 3 rfl rfl)
theorem dX4_tells_75 : decode cX4_tells 75 = .ok (.iconst 2, 1) := dk_5 (dk_at dksX4_tells_3 4 rfl rfl)
theorem dX4_tells_76 : decode cX4_tells 76 = .ok (.aload_n 0, 1) := dk_42 (dk_at dksX4_tells_3 5 rfl rfl)
theorem dX4_tells_77 : decode cX4_tells 77 = .ok (.getfield 7, 3) := dk_180 0 7 (dk_at dksX4_tells_3 6 rfl rfl)
theorem dX4_tells_80 : decode cX4_tells 80 = .ok (.bipush 95, 2) := dk_16 95 (dk_at dksX4_tells_3 9 rfl rfl)
theorem dX4_tells_82 : decode cX4_tells 82 = .ok (.iload 5, 2) := dk_21 5 (dk_at dksX4_tells_3 11 rfl rfl)
theorem dX4_tells_84 : decode cX4_tells 84 = .ok (.iadd, 1) := dk_96 (dk_at dksX4_tells_3 13 rfl rfl)
theorem dX4_tells_85 : decode cX4_tells 85 = .ok (.iaload, 1) := dk_46 (dk_at dksX4_tells_3 14 rfl rfl)
theorem dX4_tells_86 : decode cX4_tells 86 = .ok (.invokevirtual 203, 3) := dk_182 0 203 (dk_at dksX4_tells_3 15 rfl rfl)
theorem dX4_tells_89 : decode cX4_tells 89 = .ok (.ireturn, 1) := dk_172 (dk_at dksX4_tells_3 18 rfl rfl)
theorem dX4_tells_90 : decode cX4_tells 90 = .ok (.iload 5, 2) := dk_21 5 (dk_at dksX4_tells_3 19 rfl rfl)
theorem dX4_tells_92 : decode cX4_tells 92 = .ok (.iconst (-1), 1) := dk_2 (dk_at dksX4_tells_3 21 rfl rfl)
theorem dX4_tells_93 : decode cX4_tells 93 = .ok (.if_icmp .ne 22, 3) := dk_160 0 22 (dk_at dksX4_tells_4 0 rfl rfl)
theorem dX4_tells_96 : decode cX4_tells 96 = .ok (.aload_n 0, 1) := dk_42 (dk_at dksX4_tells_4 3 rfl rfl)
theorem dX4_tells_97 : decode cX4_tells 97 = .ok (.getfield 7, 3) := dk_180 0 7 (dk_at dksX4_tells_4 4 rfl rfl)
theorem dX4_tells_100 : decode cX4_tells 100 = .ok (.iconst 1, 1) := dk_4 (dk_at dksX4_tells_4 7 rfl rfl)
theorem dX4_tells_101 : decode cX4_tells 101 = .ok (.iaload, 1) := dk_46 (dk_at dksX4_tells_4 8 rfl rfl)
theorem dX4_tells_102 : decode cX4_tells 102 = .ok (.bipush 20, 2) := dk_16 20 (dk_at dksX4_tells_4 9 rfl rfl)
theorem dX4_tells_104 : decode cX4_tells 104 = .ok (.if_icmp .ne 11, 3) := dk_160 0 11 (dk_at dksX4_tells_4 11 rfl rfl)
theorem dX4_tells_107 : decode cX4_tells 107 = .ok (.aload_n 0, 1) := dk_42 (dk_at dksX4_tells_4 14 rfl rfl)
theorem dX4_tells_108 : decode cX4_tells 108 = .ok (.iconst 1, 1) := dk_4 (dk_at dksX4_tells_4 15 rfl rfl)
theorem dX4_tells_109 : decode cX4_tells 109 = .ok (.bipush 20, 2) := dk_16 20 (dk_at dksX4_tells_4 16 rfl rfl)
theorem dX4_tells_111 : decode cX4_tells 111 = .ok (.invokevirtual 203, 3) := dk_182 0 203 (dk_at dksX4_tells_4 18 rfl rfl)
theorem dX4_tells_114 : decode cX4_tells 114 = .ok (.ireturn, 1) := dk_172 (dk_at dksX4_tells_4 21 rfl rfl)
theorem dX4_tells_115 : decode cX4_tells 115 = .ok (.iload 5, 2) := dk_21 5 (dk_at dksX4_tells_4 22 rfl rfl)
theorem dX4_tells_117 : decode cX4_tells 117 = .ok (.iconst (-1), 1) := dk_2 (dk_at dksX4_tells_5 0 rfl rfl)
theorem dX4_tells_118 : decode cX4_tells 118 = .ok (.if_icmp .ne 22, 3) := dk_160 0 22 (dk_at dksX4_tells_5 1 rfl rfl)
theorem dX4_tells_121 : decode cX4_tells 121 = .ok (.aload_n 0, 1) := dk_42 (dk_at dksX4_tells_5 4 rfl rfl)
theorem dX4_tells_122 : decode cX4_tells 122 = .ok (.aload_n 0, 1) := dk_42 (dk_at dksX4_tells_5 5 rfl rfl)
theorem dX4_tells_123 : decode cX4_tells 123 = .ok (.iload_n 1, 1) := dk_27 (dk_at dksX4_tells_5 6 rfl rfl)
theorem dX4_tells_124 : decode cX4_tells 124 = .ok (.iload_n 2, 1) := dk_28 (dk_at dksX4_tells_5 7 rfl rfl)
theorem dX4_tells_125 : decode cX4_tells 125 = .ok (.iload_n 3, 1) := dk_29 (dk_at dksX4_tells_5 8 rfl rfl)
theorem dX4_tells_126 : decode cX4_tells 126 = .ok (.iconst 1, 1) := dk_4 (dk_at dksX4_tells_5 9 rfl rfl)
theorem dX4_tells_127 : decode cX4_tells 127 = .ok (.iload 4, 2) := dk_21 4 (dk_at dksX4_tells_5 10 rfl rfl)
theorem dX4_tells_129 : decode cX4_tells 129 = .ok (.i2f, 1) := dk_134 (dk_at dksX4_tells_5 12 rfl rfl)
theorem dX4_tells_130 : decode cX4_tells 130 = .ok (.ldc 215, 2) := dk_18 215 (dk_at dksX4_tells_5 13 rfl rfl)
theorem dX4_tells_132 : decode cX4_tells 132 = .ok (.fdiv, 1) := dk_110 (dk_at dksX4_tells_5 15 rfl rfl)
theorem dX4_tells_133 : decode cX4_tells 133 = .ok (.invokevirtual 193, 3) := dk_182 0 193 (dk_at dksX4_tells_5 16 rfl rfl)
theorem dX4_tells_136 : decode cX4_tells 136 = .ok (.invokevirtual 206, 3) := dk_182 0 206 (dk_at dksX4_tells_5 19 rfl rfl)
theorem dX4_tells_139 : decode cX4_tells 139 = .ok (.ireturn, 1) := dk_172 (dk_at dksX4_tells_5 22 rfl rfl)
theorem dX4_tells_140 : decode cX4_tells 140 = .ok (.aload_n 0, 1) := dk_42 (dk_at dksX4_tells_5 23 rfl rfl)
theorem dX4_tells_141 : decode cX4_tells 141 = .ok (.getfield 7, 3) := dk_180 0 7 (dk_at dksX4_tells_6 0 rfl rfl)
theorem dX4_tells_144 : decode cX4_tells 144 = .ok (.sipush 175, 3) := dk_17 0 175 (dk_at dksX4_tells_6 3 rfl rfl)
theorem dX4_tells_147 : decode cX4_tells 147 = .ok (.iload 5, 2) := dk_21 5 (dk_at dksX4_tells_6 6 rfl rfl)
theorem dX4_tells_149 : decode cX4_tells 149 = .ok (.iadd, 1) := dk_96 (dk_at dksX4_tells_6 8 rfl rfl)
theorem dX4_tells_150 : decode cX4_tells 150 = .ok (.iconst 1, 1) := dk_4 (dk_at dksX4_tells_6 9 rfl rfl)
theorem dX4_tells_151 : decode cX4_tells 151 = .ok (.iastore, 1) := dk_79 (dk_at dksX4_tells_6 10 rfl rfl)
theorem dX4_tells_152 : decode cX4_tells 152 = .ok (.aload_n 0, 1) := dk_42 (dk_at dksX4_tells_6 11 rfl rfl)
theorem dX4_tells_153 : decode cX4_tells 153 = .ok (.aload_n 0, 1) := dk_42 (dk_at dksX4_tells_6 12 rfl rfl)
theorem dX4_tells_154 : decode cX4_tells 154 = .ok (.getfield 7, 3) := dk_180 0 7 (dk_at dksX4_tells_6 13 rfl rfl)
theorem dX4_tells_157 : decode cX4_tells 157 = .ok (.bipush 95, 2) := dk_16 95 (dk_at dksX4_tells_6 16 rfl rfl)
theorem dX4_tells_159 : decode cX4_tells 159 = .ok (.iload 5, 2) := dk_21 5 (dk_at dksX4_tells_6 18 rfl rfl)
theorem dX4_tells_161 : decode cX4_tells 161 = .ok (.iadd, 1) := dk_96 (dk_at dksX4_tells_6 20 rfl rfl)
theorem dX4_tells_162 : decode cX4_tells 162 = .ok (.iaload, 1) := dk_46 (dk_at dksX4_tells_6 21 rfl rfl)
theorem dX4_tells_163 : decode cX4_tells 163 = .ok (.invokevirtual 206, 3) := dk_182 0 206 (dk_at dksX4_tells_7 0 rfl rfl)
theorem dX4_tells_166 : decode cX4_tells 166 = .ok (.ireturn, 1) := dk_172 (dk_at dksX4_tells_7 3 rfl rfl)
abbrev cX4_slotOf3 : ByteArray := prog_14_method_11_code
def yX4_slotOf3 : MethodName := ⟨RX4, "slotOf3", "(III)I"⟩
def dkwX4_slotOf3_2 : List UInt8 := [17, 0, 155, 21, 4, 96, 46, 29, 160, 0, 6, 21, 4, 172, 132, 4, 1, 167, 255, 195, 2, 172]
abbrev dktX4_slotOf3_2 : List UInt8 := dkwX4_slotOf3_2 ++ []
def dkwX4_slotOf3_1 : List UInt8 := [27, 160, 0, 36, 42, 180, 0, 7, 17, 0, 135, 21, 4, 96, 46, 28, 160, 0, 21, 42, 180, 0, 7]
abbrev dktX4_slotOf3_1 : List UInt8 := dkwX4_slotOf3_1 ++ dktX4_slotOf3_2
def dkwX4_slotOf3_0 : List UInt8 := [3, 54, 4, 21, 4, 42, 180, 0, 7, 4, 46, 162, 0, 56, 42, 180, 0, 7, 16, 115, 21, 4, 96, 46]
abbrev dktX4_slotOf3_0 : List UInt8 := dkwX4_slotOf3_0 ++ dktX4_slotOf3_1
theorem dksX4_slotOf3_0 : cX4_slotOf3.data.toList.drop 0 = dktX4_slotOf3_0 := by decide +kernel
theorem dksX4_slotOf3_1 : cX4_slotOf3.data.toList.drop 24 = dktX4_slotOf3_1 := dk_seg dksX4_slotOf3_0 24 rfl rfl
theorem dksX4_slotOf3_2 : cX4_slotOf3.data.toList.drop 47 = dktX4_slotOf3_2 := dk_seg dksX4_slotOf3_1 23 rfl rfl
theorem dX4_slotOf3_0 : decode cX4_slotOf3 0 = .ok (.iconst 0, 1) := dk_3 (dk_at dksX4_slotOf3_0 0 rfl rfl)
theorem dX4_slotOf3_1 : decode cX4_slotOf3 1 = .ok (.istore 4, 2) := dk_54 4 (dk_at dksX4_slotOf3_0 1 rfl rfl)
theorem dX4_slotOf3_3 : decode cX4_slotOf3 3 = .ok (.iload 4, 2) := dk_21 4 (dk_at dksX4_slotOf3_0 3 rfl rfl)
theorem dX4_slotOf3_5 : decode cX4_slotOf3 5 = .ok (.aload_n 0, 1) := dk_42 (dk_at dksX4_slotOf3_0 5 rfl rfl)
theorem dX4_slotOf3_6 : decode cX4_slotOf3 6 = .ok (.getfield 7, 3) := dk_180 0 7 (dk_at dksX4_slotOf3_0 6 rfl rfl)
theorem dX4_slotOf3_9 : decode cX4_slotOf3 9 = .ok (.iconst 1, 1) := dk_4 (dk_at dksX4_slotOf3_0 9 rfl rfl)
theorem dX4_slotOf3_10 : decode cX4_slotOf3 10 = .ok (.iaload, 1) := dk_46 (dk_at dksX4_slotOf3_0 10 rfl rfl)
theorem dX4_slotOf3_11 : decode cX4_slotOf3 11 = .ok (.if_icmp .ge 56, 3) := dk_162 0 56 (dk_at dksX4_slotOf3_0 11 rfl rfl)
theorem dX4_slotOf3_14 : decode cX4_slotOf3 14 = .ok (.aload_n 0, 1) := dk_42 (dk_at dksX4_slotOf3_0 14 rfl rfl)
theorem dX4_slotOf3_15 : decode cX4_slotOf3 15 = .ok (.getfield 7, 3) := dk_180 0 7 (dk_at dksX4_slotOf3_0 15 rfl rfl)
theorem dX4_slotOf3_18 : decode cX4_slotOf3 18 = .ok (.bipush 115, 2) := dk_16 115 (dk_at dksX4_slotOf3_0 18 rfl rfl)
theorem dX4_slotOf3_20 : decode cX4_slotOf3 20 = .ok (.iload 4, 2) := dk_21 4 (dk_at dksX4_slotOf3_0 20 rfl rfl)
theorem dX4_slotOf3_22 : decode cX4_slotOf3 22 = .ok (.iadd, 1) := dk_96 (dk_at dksX4_slotOf3_0 22 rfl rfl)
theorem dX4_slotOf3_23 : decode cX4_slotOf3 23 = .ok (.iaload, 1) := dk_46 (dk_at dksX4_slotOf3_0 23 rfl rfl)
theorem dX4_slotOf3_24 : decode cX4_slotOf3 24 = .ok (.iload_n 1, 1) := dk_27 (dk_at dksX4_slotOf3_1 0 rfl rfl)
theorem dX4_slotOf3_25 : decode cX4_slotOf3 25 = .ok (.if_icmp .ne 36, 3) := dk_160 0 36 (dk_at dksX4_slotOf3_1 1 rfl rfl)
theorem dX4_slotOf3_28 : decode cX4_slotOf3 28 = .ok (.aload_n 0, 1) := dk_42 (dk_at dksX4_slotOf3_1 4 rfl rfl)
theorem dX4_slotOf3_29 : decode cX4_slotOf3 29 = .ok (.getfield 7, 3) := dk_180 0 7 (dk_at dksX4_slotOf3_1 5 rfl rfl)
theorem dX4_slotOf3_32 : decode cX4_slotOf3 32 = .ok (.sipush 135, 3) := dk_17 0 135 (dk_at dksX4_slotOf3_1 8 rfl rfl)
theorem dX4_slotOf3_35 : decode cX4_slotOf3 35 = .ok (.iload 4, 2) := dk_21 4 (dk_at dksX4_slotOf3_1 11 rfl rfl)
theorem dX4_slotOf3_37 : decode cX4_slotOf3 37 = .ok (.iadd, 1) := dk_96 (dk_at dksX4_slotOf3_1 13 rfl rfl)
theorem dX4_slotOf3_38 : decode cX4_slotOf3 38 = .ok (.iaload, 1) := dk_46 (dk_at dksX4_slotOf3_1 14 rfl rfl)
theorem dX4_slotOf3_39 : decode cX4_slotOf3 39 = .ok (.iload_n 2, 1) := dk_28 (dk_at dksX4_slotOf3_1 15 rfl rfl)
theorem dX4_slotOf3_40 : decode cX4_slotOf3 40 = .ok (.if_icmp .ne 21, 3) := dk_160 0 21 (dk_at dksX4_slotOf3_1 16 rfl rfl)
theorem dX4_slotOf3_43 : decode cX4_slotOf3 43 = .ok (.aload_n 0, 1) := dk_42 (dk_at dksX4_slotOf3_1 19 rfl rfl)
theorem dX4_slotOf3_44 : decode cX4_slotOf3 44 = .ok (.getfield 7, 3) := dk_180 0 7 (dk_at dksX4_slotOf3_1 20 rfl rfl)
theorem dX4_slotOf3_47 : decode cX4_slotOf3 47 = .ok (.sipush 155, 3) := dk_17 0 155 (dk_at dksX4_slotOf3_2 0 rfl rfl)
theorem dX4_slotOf3_50 : decode cX4_slotOf3 50 = .ok (.iload 4, 2) := dk_21 4 (dk_at dksX4_slotOf3_2 3 rfl rfl)
theorem dX4_slotOf3_52 : decode cX4_slotOf3 52 = .ok (.iadd, 1) := dk_96 (dk_at dksX4_slotOf3_2 5 rfl rfl)
theorem dX4_slotOf3_53 : decode cX4_slotOf3 53 = .ok (.iaload, 1) := dk_46 (dk_at dksX4_slotOf3_2 6 rfl rfl)
theorem dX4_slotOf3_54 : decode cX4_slotOf3 54 = .ok (.iload_n 3, 1) := dk_29 (dk_at dksX4_slotOf3_2 7 rfl rfl)
theorem dX4_slotOf3_55 : decode cX4_slotOf3 55 = .ok (.if_icmp .ne 6, 3) := dk_160 0 6 (dk_at dksX4_slotOf3_2 8 rfl rfl)
theorem dX4_slotOf3_58 : decode cX4_slotOf3 58 = .ok (.iload 4, 2) := dk_21 4 (dk_at dksX4_slotOf3_2 11 rfl rfl)
theorem dX4_slotOf3_60 : decode cX4_slotOf3 60 = .ok (.ireturn, 1) := dk_172 (dk_at dksX4_slotOf3_2 13 rfl rfl)
theorem dX4_slotOf3_61 : decode cX4_slotOf3 61 = .ok (.iinc 4 1, 3) := dk_132 4 1 (dk_at dksX4_slotOf3_2 14 rfl rfl)
theorem dX4_slotOf3_64 : decode cX4_slotOf3 64 = .ok (.goto (-61), 3) := dk_167 255 195 (dk_at dksX4_slotOf3_2 17 rfl rfl)
theorem dX4_slotOf3_67 : decode cX4_slotOf3 67 = .ok (.iconst (-1), 1) := dk_2 (dk_at dksX4_slotOf3_2 20 rfl rfl)
theorem dX4_slotOf3_68 : decode cX4_slotOf3 68 = .ok (.ireturn, 1) := dk_172 (dk_at dksX4_slotOf3_2 21 rfl rfl)
abbrev cX4_comes : ByteArray := prog_14_method_12_code
def yX4_comes : MethodName := ⟨RX4, "comes", "(IIIIF)I"⟩
def dkwX4_comes_5 : List UInt8 := [5, 92, 46, 4, 96, 79, 42, 180, 0, 7, 16, 95, 21, 6, 96, 46, 172]
abbrev dktX4_comes_5 : List UInt8 := dkwX4_comes_5 ++ []
def dkwX4_comes_4 : List UInt8 := [21, 6, 96, 42, 180, 0, 7, 6, 46, 79, 42, 180, 0, 7, 4, 21, 6, 4, 96, 79, 42, 180, 0, 7]
abbrev dktX4_comes_4 : List UInt8 := dkwX4_comes_4 ++ dktX4_comes_5
def dkwX4_comes_3 : List UInt8 := [42, 180, 0, 7, 17, 0, 195, 21, 6, 96, 23, 5, 184, 0, 110, 79, 42, 180, 0, 7, 17, 0, 215]
abbrev dktX4_comes_3 : List UInt8 := dkwX4_comes_3 ++ dktX4_comes_4
def dkwX4_comes_2 : List UInt8 := [180, 0, 7, 17, 0, 155, 21, 6, 96, 29, 79, 42, 180, 0, 7, 17, 0, 175, 21, 6, 96, 21, 4, 79]
abbrev dktX4_comes_2 : List UInt8 := dkwX4_comes_2 ++ dktX4_comes_3
def dkwX4_comes_1 : List UInt8 := [42, 180, 0, 7, 16, 115, 21, 6, 96, 27, 79, 42, 180, 0, 7, 17, 0, 135, 21, 6, 96, 28, 79, 42]
abbrev dktX4_comes_1 : List UInt8 := dkwX4_comes_1 ++ dktX4_comes_2
def dkwX4_comes_0 : List UInt8 := [42, 180, 0, 7, 4, 46, 54, 6, 42, 180, 0, 7, 16, 95, 21, 6, 96, 42, 180, 0, 7, 5, 46, 79]
abbrev dktX4_comes_0 : List UInt8 := dkwX4_comes_0 ++ dktX4_comes_1
theorem dksX4_comes_0 : cX4_comes.data.toList.drop 0 = dktX4_comes_0 := by decide +kernel
theorem dksX4_comes_1 : cX4_comes.data.toList.drop 24 = dktX4_comes_1 := dk_seg dksX4_comes_0 24 rfl rfl
theorem dksX4_comes_2 : cX4_comes.data.toList.drop 48 = dktX4_comes_2 := dk_seg dksX4_comes_1 24 rfl rfl
theorem dksX4_comes_3 : cX4_comes.data.toList.drop 72 = dktX4_comes_3 := dk_seg dksX4_comes_2 24 rfl rfl
theorem dksX4_comes_4 : cX4_comes.data.toList.drop 95 = dktX4_comes_4 := dk_seg dksX4_comes_3 23 rfl rfl
theorem dksX4_comes_5 : cX4_comes.data.toList.drop 119 = dktX4_comes_5 := dk_seg dksX4_comes_4 24 rfl rfl
theorem dX4_comes_0 : decode cX4_comes 0 = .ok (.aload_n 0, 1) := dk_42 (dk_at dksX4_comes_0 0 rfl rfl)
theorem dX4_comes_1 : decode cX4_comes 1 = .ok (.getfield 7, 3) := dk_180 0 7 (dk_at dksX4_comes_0 1 rfl rfl)
theorem dX4_comes_4 : decode cX4_comes 4 = .ok (.iconst 1, 1) := dk_4 (dk_at dksX4_comes_0 4 rfl rfl)
theorem dX4_comes_5 : decode cX4_comes 5 = .ok (.iaload, 1) := dk_46 (dk_at dksX4_comes_0 5 rfl rfl)
theorem dX4_comes_6 : decode cX4_comes 6 = .ok (.istore 6, 2) := dk_54 6 (dk_at dksX4_comes_0 6 rfl rfl)
theorem dX4_comes_8 : decode cX4_comes 8 = .ok (.aload_n 0, 1) := dk_42 (dk_at dksX4_comes_0 8 rfl rfl)
theorem dX4_comes_9 : decode cX4_comes 9 = .ok (.getfield 7, 3) := dk_180 0 7 (dk_at dksX4_comes_0 9 rfl rfl)
theorem dX4_comes_12 : decode cX4_comes 12 = .ok (.bipush 95, 2) := dk_16 95 (dk_at dksX4_comes_0 12 rfl rfl)
theorem dX4_comes_14 : decode cX4_comes 14 = .ok (.iload 6, 2) := dk_21 6 (dk_at dksX4_comes_0 14 rfl rfl)
theorem dX4_comes_16 : decode cX4_comes 16 = .ok (.iadd, 1) := dk_96 (dk_at dksX4_comes_0 16 rfl rfl)
theorem dX4_comes_17 : decode cX4_comes 17 = .ok (.aload_n 0, 1) := dk_42 (dk_at dksX4_comes_0 17 rfl rfl)
theorem dX4_comes_18 : decode cX4_comes 18 = .ok (.getfield 7, 3) := dk_180 0 7 (dk_at dksX4_comes_0 18 rfl rfl)
theorem dX4_comes_21 : decode cX4_comes 21 = .ok (.iconst 2, 1) := dk_5 (dk_at dksX4_comes_0 21 rfl rfl)
theorem dX4_comes_22 : decode cX4_comes 22 = .ok (.iaload, 1) := dk_46 (dk_at dksX4_comes_0 22 rfl rfl)
theorem dX4_comes_23 : decode cX4_comes 23 = .ok (.iastore, 1) := dk_79 (dk_at dksX4_comes_0 23 rfl rfl)
theorem dX4_comes_24 : decode cX4_comes 24 = .ok (.aload_n 0, 1) := dk_42 (dk_at dksX4_comes_1 0 rfl rfl)
theorem dX4_comes_25 : decode cX4_comes 25 = .ok (.getfield 7, 3) := dk_180 0 7 (dk_at dksX4_comes_1 1 rfl rfl)
theorem dX4_comes_28 : decode cX4_comes 28 = .ok (.bipush 115, 2) := dk_16 115 (dk_at dksX4_comes_1 4 rfl rfl)
theorem dX4_comes_30 : decode cX4_comes 30 = .ok (.iload 6, 2) := dk_21 6 (dk_at dksX4_comes_1 6 rfl rfl)
theorem dX4_comes_32 : decode cX4_comes 32 = .ok (.iadd, 1) := dk_96 (dk_at dksX4_comes_1 8 rfl rfl)
theorem dX4_comes_33 : decode cX4_comes 33 = .ok (.iload_n 1, 1) := dk_27 (dk_at dksX4_comes_1 9 rfl rfl)
theorem dX4_comes_34 : decode cX4_comes 34 = .ok (.iastore, 1) := dk_79 (dk_at dksX4_comes_1 10 rfl rfl)
theorem dX4_comes_35 : decode cX4_comes 35 = .ok (.aload_n 0, 1) := dk_42 (dk_at dksX4_comes_1 11 rfl rfl)
theorem dX4_comes_36 : decode cX4_comes 36 = .ok (.getfield 7, 3) := dk_180 0 7 (dk_at dksX4_comes_1 12 rfl rfl)
theorem dX4_comes_39 : decode cX4_comes 39 = .ok (.sipush 135, 3) := dk_17 0 135 (dk_at dksX4_comes_1 15 rfl rfl)
theorem dX4_comes_42 : decode cX4_comes 42 = .ok (.iload 6, 2) := dk_21 6 (dk_at dksX4_comes_1 18 rfl rfl)
theorem dX4_comes_44 : decode cX4_comes 44 = .ok (.iadd, 1) := dk_96 (dk_at dksX4_comes_1 20 rfl rfl)
theorem dX4_comes_45 : decode cX4_comes 45 = .ok (.iload_n 2, 1) := dk_28 (dk_at dksX4_comes_1 21 rfl rfl)
theorem dX4_comes_46 : decode cX4_comes 46 = .ok (.iastore, 1) := dk_79 (dk_at dksX4_comes_1 22 rfl rfl)
theorem dX4_comes_47 : decode cX4_comes 47 = .ok (.aload_n 0, 1) := dk_42 (dk_at dksX4_comes_1 23 rfl rfl)
theorem dX4_comes_48 : decode cX4_comes 48 = .ok (.getfield 7, 3) := dk_180 0 7 (dk_at dksX4_comes_2 0 rfl rfl)
theorem dX4_comes_51 : decode cX4_comes 51 = .ok (.sipush 155, 3) := dk_17 0 155 (dk_at dksX4_comes_2 3 rfl rfl)
theorem dX4_comes_54 : decode cX4_comes 54 = .ok (.iload 6, 2) := dk_21 6 (dk_at dksX4_comes_2 6 rfl rfl)
theorem dX4_comes_56 : decode cX4_comes 56 = .ok (.iadd, 1) := dk_96 (dk_at dksX4_comes_2 8 rfl rfl)
theorem dX4_comes_57 : decode cX4_comes 57 = .ok (.iload_n 3, 1) := dk_29 (dk_at dksX4_comes_2 9 rfl rfl)
theorem dX4_comes_58 : decode cX4_comes 58 = .ok (.iastore, 1) := dk_79 (dk_at dksX4_comes_2 10 rfl rfl)
theorem dX4_comes_59 : decode cX4_comes 59 = .ok (.aload_n 0, 1) := dk_42 (dk_at dksX4_comes_2 11 rfl rfl)
theorem dX4_comes_60 : decode cX4_comes 60 = .ok (.getfield 7, 3) := dk_180 0 7 (dk_at dksX4_comes_2 12 rfl rfl)
theorem dX4_comes_63 : decode cX4_comes 63 = .ok (.sipush 175, 3) := dk_17 0 175 (dk_at dksX4_comes_2 15 rfl rfl)
theorem dX4_comes_66 : decode cX4_comes 66 = .ok (.iload 6, 2) := dk_21 6 (dk_at dksX4_comes_2 18 rfl rfl)
theorem dX4_comes_68 : decode cX4_comes 68 = .ok (.iadd, 1) := dk_96 (dk_at dksX4_comes_2 20 rfl rfl)
theorem dX4_comes_69 : decode cX4_comes 69 = .ok (.iload 4, 2) := dk_21 4 (dk_at dksX4_comes_2 21 rfl rfl)
theorem dX4_comes_71 : decode cX4_comes 71 = .ok (.iastore, 1) := dk_79 (dk_at dksX4_comes_2 23 rfl rfl)
theorem dX4_comes_72 : decode cX4_comes 72 = .ok (.aload_n 0, 1) := dk_42 (dk_at dksX4_comes_3 0 rfl rfl)
theorem dX4_comes_73 : decode cX4_comes 73 = .ok (.getfield 7, 3) := dk_180 0 7 (dk_at dksX4_comes_3 1 rfl rfl)
theorem dX4_comes_76 : decode cX4_comes 76 = .ok (.sipush 195, 3) := dk_17 0 195 (dk_at dksX4_comes_3 4 rfl rfl)
theorem dX4_comes_79 : decode cX4_comes 79 = .ok (.iload 6, 2) := dk_21 6 (dk_at dksX4_comes_3 7 rfl rfl)
theorem dX4_comes_81 : decode cX4_comes 81 = .ok (.iadd, 1) := dk_96 (dk_at dksX4_comes_3 9 rfl rfl)
theorem dX4_comes_82 : decode cX4_comes 82 = .ok (.fload 5, 2) := dk_23 5 (dk_at dksX4_comes_3 10 rfl rfl)
theorem dX4_comes_84 : decode cX4_comes 84 = .ok (.invokestatic 110, 3) := dk_184 0 110 (dk_at dksX4_comes_3 12 rfl rfl)
theorem dX4_comes_87 : decode cX4_comes 87 = .ok (.iastore, 1) := dk_79 (dk_at dksX4_comes_3 15 rfl rfl)
theorem dX4_comes_88 : decode cX4_comes 88 = .ok (.aload_n 0, 1) := dk_42 (dk_at dksX4_comes_3 16 rfl rfl)
theorem dX4_comes_89 : decode cX4_comes 89 = .ok (.getfield 7, 3) := dk_180 0 7 (dk_at dksX4_comes_3 17 rfl rfl)
theorem dX4_comes_92 : decode cX4_comes 92 = .ok (.sipush 215, 3) := dk_17 0 215 (dk_at dksX4_comes_3 20 rfl rfl)
theorem dX4_comes_95 : decode cX4_comes 95 = .ok (.iload 6, 2) := dk_21 6 (dk_at dksX4_comes_4 0 rfl rfl)
theorem dX4_comes_97 : decode cX4_comes 97 = .ok (.iadd, 1) := dk_96 (dk_at dksX4_comes_4 2 rfl rfl)
theorem dX4_comes_98 : decode cX4_comes 98 = .ok (.aload_n 0, 1) := dk_42 (dk_at dksX4_comes_4 3 rfl rfl)
theorem dX4_comes_99 : decode cX4_comes 99 = .ok (.getfield 7, 3) := dk_180 0 7 (dk_at dksX4_comes_4 4 rfl rfl)
theorem dX4_comes_102 : decode cX4_comes 102 = .ok (.iconst 3, 1) := dk_6 (dk_at dksX4_comes_4 7 rfl rfl)
theorem dX4_comes_103 : decode cX4_comes 103 = .ok (.iaload, 1) := dk_46 (dk_at dksX4_comes_4 8 rfl rfl)
theorem dX4_comes_104 : decode cX4_comes 104 = .ok (.iastore, 1) := dk_79 (dk_at dksX4_comes_4 9 rfl rfl)
theorem dX4_comes_105 : decode cX4_comes 105 = .ok (.aload_n 0, 1) := dk_42 (dk_at dksX4_comes_4 10 rfl rfl)
theorem dX4_comes_106 : decode cX4_comes 106 = .ok (.getfield 7, 3) := dk_180 0 7 (dk_at dksX4_comes_4 11 rfl rfl)
theorem dX4_comes_109 : decode cX4_comes 109 = .ok (.iconst 1, 1) := dk_4 (dk_at dksX4_comes_4 14 rfl rfl)
theorem dX4_comes_110 : decode cX4_comes 110 = .ok (.iload 6, 2) := dk_21 6 (dk_at dksX4_comes_4 15 rfl rfl)
theorem dX4_comes_112 : decode cX4_comes 112 = .ok (.iconst 1, 1) := dk_4 (dk_at dksX4_comes_4 17 rfl rfl)
theorem dX4_comes_113 : decode cX4_comes 113 = .ok (.iadd, 1) := dk_96 (dk_at dksX4_comes_4 18 rfl rfl)
theorem dX4_comes_114 : decode cX4_comes 114 = .ok (.iastore, 1) := dk_79 (dk_at dksX4_comes_4 19 rfl rfl)
theorem dX4_comes_115 : decode cX4_comes 115 = .ok (.aload_n 0, 1) := dk_42 (dk_at dksX4_comes_4 20 rfl rfl)
theorem dX4_comes_116 : decode cX4_comes 116 = .ok (.getfield 7, 3) := dk_180 0 7 (dk_at dksX4_comes_4 21 rfl rfl)
theorem dX4_comes_119 : decode cX4_comes 119 = .ok (.iconst 2, 1) := dk_5 (dk_at dksX4_comes_5 0 rfl rfl)
theorem dX4_comes_120 : decode cX4_comes 120 = .ok (.dup2, 1) := dk_92 (dk_at dksX4_comes_5 1 rfl rfl)
theorem dX4_comes_121 : decode cX4_comes 121 = .ok (.iaload, 1) := dk_46 (dk_at dksX4_comes_5 2 rfl rfl)
theorem dX4_comes_122 : decode cX4_comes 122 = .ok (.iconst 1, 1) := dk_4 (dk_at dksX4_comes_5 3 rfl rfl)
theorem dX4_comes_123 : decode cX4_comes 123 = .ok (.iadd, 1) := dk_96 (dk_at dksX4_comes_5 4 rfl rfl)
theorem dX4_comes_124 : decode cX4_comes 124 = .ok (.iastore, 1) := dk_79 (dk_at dksX4_comes_5 5 rfl rfl)
theorem dX4_comes_125 : decode cX4_comes 125 = .ok (.aload_n 0, 1) := dk_42 (dk_at dksX4_comes_5 6 rfl rfl)
theorem dX4_comes_126 : decode cX4_comes 126 = .ok (.getfield 7, 3) := dk_180 0 7 (dk_at dksX4_comes_5 7 rfl rfl)
theorem dX4_comes_129 : decode cX4_comes 129 = .ok (.bipush 95, 2) := dk_16 95 (dk_at dksX4_comes_5 10 rfl rfl)
theorem dX4_comes_131 : decode cX4_comes 131 = .ok (.iload 6, 2) := dk_21 6 (dk_at dksX4_comes_5 12 rfl rfl)
theorem dX4_comes_133 : decode cX4_comes 133 = .ok (.iadd, 1) := dk_96 (dk_at dksX4_comes_5 14 rfl rfl)
theorem dX4_comes_134 : decode cX4_comes 134 = .ok (.iaload, 1) := dk_46 (dk_at dksX4_comes_5 15 rfl rfl)
theorem dX4_comes_135 : decode cX4_comes 135 = .ok (.ireturn, 1) := dk_172 (dk_at dksX4_comes_5 16 rfl rfl)
abbrev cX4_untell : ByteArray := prog_14_method_47_code
def yX4_untell : MethodName := ⟨RX4, "untell", "(I)I"⟩
def dkwX4_untell_0 : List UInt8 := [42, 182, 0, 222, 42, 42, 27, 182, 0, 254, 4, 182, 0, 244, 172]
abbrev dktX4_untell_0 : List UInt8 := dkwX4_untell_0 ++ []
theorem dksX4_untell_0 : cX4_untell.data.toList.drop 0 = dktX4_untell_0 := by decide +kernel
theorem dX4_untell_0 : decode cX4_untell 0 = .ok (.aload_n 0, 1) := dk_42 (dk_at dksX4_untell_0 0 rfl rfl)
theorem dX4_untell_1 : decode cX4_untell 1 = .ok (.invokevirtual 222, 3) := dk_182 0 222 (dk_at dksX4_untell_0 1 rfl rfl)
theorem dX4_untell_4 : decode cX4_untell 4 = .ok (.aload_n 0, 1) := dk_42 (dk_at dksX4_untell_0 4 rfl rfl)
theorem dX4_untell_5 : decode cX4_untell 5 = .ok (.aload_n 0, 1) := dk_42 (dk_at dksX4_untell_0 5 rfl rfl)
theorem dX4_untell_6 : decode cX4_untell 6 = .ok (.iload_n 1, 1) := dk_27 (dk_at dksX4_untell_0 6 rfl rfl)
theorem dX4_untell_7 : decode cX4_untell 7 = .ok (.invokevirtual 254, 3) := dk_182 0 254 (dk_at dksX4_untell_0 7 rfl rfl)
theorem dX4_untell_10 : decode cX4_untell 10 = .ok (.iconst 1, 1) := dk_4 (dk_at dksX4_untell_0 10 rfl rfl)
theorem dX4_untell_11 : decode cX4_untell 11 = .ok (.invokevirtual 244, 3) := dk_182 0 244 (dk_at dksX4_untell_0 11 rfl rfl)
theorem dX4_untell_14 : decode cX4_untell 14 = .ok (.ireturn, 1) := dk_172 (dk_at dksX4_untell_0 14 rfl rfl)
abbrev cX4_untells : ByteArray := prog_14_method_41_code
def yX4_untells : MethodName := ⟨RX4, "untells", "(I)I"⟩
def dkwX4_untells_2 : List UInt8 := [17, 0, 175, 28, 96, 3, 79, 42, 42, 182, 0, 212, 182, 0, 206, 172]
abbrev dktX4_untells_2 : List UInt8 := dkwX4_untells_2 ++ []
def dkwX4_untells_1 : List UInt8 := [17, 0, 175, 28, 96, 46, 154, 0, 14, 42, 7, 42, 27, 182, 0, 216, 182, 0, 203, 172, 42, 180, 0, 7]
abbrev dktX4_untells_1 : List UInt8 := dkwX4_untells_1 ++ dktX4_untells_2
def dkwX4_untells_0 : List UInt8 := [42, 27, 182, 0, 128, 61, 28, 2, 160, 0, 10, 42, 6, 27, 182, 0, 203, 172, 42, 180, 0, 7]
abbrev dktX4_untells_0 : List UInt8 := dkwX4_untells_0 ++ dktX4_untells_1
theorem dksX4_untells_0 : cX4_untells.data.toList.drop 0 = dktX4_untells_0 := by decide +kernel
theorem dksX4_untells_1 : cX4_untells.data.toList.drop 22 = dktX4_untells_1 := dk_seg dksX4_untells_0 22 rfl rfl
theorem dksX4_untells_2 : cX4_untells.data.toList.drop 46 = dktX4_untells_2 := dk_seg dksX4_untells_1 24 rfl rfl
theorem dX4_untells_0 : decode cX4_untells 0 = .ok (.aload_n 0, 1) := dk_42 (dk_at dksX4_untells_0 0 rfl rfl)
theorem dX4_untells_1 : decode cX4_untells 1 = .ok (.iload_n 1, 1) := dk_27 (dk_at dksX4_untells_0 1 rfl rfl)
theorem dX4_untells_2 : decode cX4_untells 2 = .ok (.invokevirtual 128, 3) := dk_182 0 128 (dk_at dksX4_untells_0 2 rfl rfl)
theorem dX4_untells_5 : decode cX4_untells 5 = .ok (.istore_n 2, 1) := dk_61 (dk_at dksX4_untells_0 5 rfl rfl)
theorem dX4_untells_6 : decode cX4_untells 6 = .ok (.iload_n 2, 1) := dk_28 (dk_at dksX4_untells_0 6 rfl rfl)
theorem dX4_untells_7 : decode cX4_untells 7 = .ok (.iconst (-1), 1) := dk_2 (dk_at dksX4_untells_0 7 rfl rfl)
theorem dX4_untells_8 : decode cX4_untells 8 = .ok (.if_icmp .ne 10, 3) := dk_160 0 10 (dk_at dksX4_untells_0 8 rfl rfl)
theorem dX4_untells_11 : decode cX4_untells 11 = .ok (.aload_n 0, 1) := dk_42 (dk_at dksX4_untells_0 11 rfl rfl)
theorem dX4_untells_12 : decode cX4_untells 12 = .ok (.iconst 3, 1) := dk_6 (dk_at dksX4_untells_0 12 rfl rfl)
theorem dX4_untells_13 : decode cX4_untells 13 = .ok (.iload_n 1, 1) := dk_27 (dk_at dksX4_untells_0 13 rfl rfl)
theorem dX4_untells_14 : decode cX4_untells 14 = .ok (.invokevirtual 203, 3) := dk_182 0 203 (dk_at dksX4_untells_0 14 rfl rfl)
theorem dX4_untells_17 : decode cX4_untells 17 = .ok (.ireturn, 1) := dk_172 (dk_at dksX4_untells_0 17 rfl rfl)
theorem dX4_untells_18 : decode cX4_untells 18 = .ok (.aload_n 0, 1) := dk_42 (dk_at dksX4_untells_0 18 rfl rfl)
theorem dX4_untells_19 : decode cX4_untells 19 = .ok (.getfield 7, 3) := dk_180 0 7 (dk_at dksX4_untells_0 19 rfl rfl)
theorem dX4_untells_22 : decode cX4_untells 22 = .ok (.sipush 175, 3) := dk_17 0 175 (dk_at dksX4_untells_1 0 rfl rfl)
theorem dX4_untells_25 : decode cX4_untells 25 = .ok (.iload_n 2, 1) := dk_28 (dk_at dksX4_untells_1 3 rfl rfl)
theorem dX4_untells_26 : decode cX4_untells 26 = .ok (.iadd, 1) := dk_96 (dk_at dksX4_untells_1 4 rfl rfl)
theorem dX4_untells_27 : decode cX4_untells 27 = .ok (.iaload, 1) := dk_46 (dk_at dksX4_untells_1 5 rfl rfl)
theorem dX4_untells_28 : decode cX4_untells 28 = .ok (.ifCond .ne 14, 3) := dk_154 0 14 (dk_at dksX4_untells_1 6 rfl rfl)
theorem dX4_untells_31 : decode cX4_untells 31 = .ok (.aload_n 0, 1) := dk_42 (dk_at dksX4_untells_1 9 rfl rfl)
theorem dX4_untells_32 : decode cX4_untells 32 = .ok (.iconst 4, 1) := dk_7 (dk_at dksX4_untells_1 10 rfl rfl)
theorem dX4_untells_33 : decode cX4_untells 33 = .ok (.aload_n 0, 1) := dk_42 (dk_at dksX4_untells_1 11 rfl rfl)
theorem dX4_untells_34 : decode cX4_untells 34 = .ok (.iload_n 1, 1) := dk_27 (dk_at dksX4_untells_1 12 rfl rfl)
theorem dX4_untells_35 : decode cX4_untells 35 = .ok (.invokevirtual 216, 3) := dk_182 0 216 (dk_at dksX4_untells_1 13 rfl rfl)
theorem dX4_untells_38 : decode cX4_untells 38 = .ok (.invokevirtual 203, 3) := dk_182 0 203 (dk_at dksX4_untells_1 16 rfl rfl)
theorem dX4_untells_41 : decode cX4_untells 41 = .ok (.ireturn, 1) := dk_172 (dk_at dksX4_untells_1 19 rfl rfl)
theorem dX4_untells_42 : decode cX4_untells 42 = .ok (.aload_n 0, 1) := dk_42 (dk_at dksX4_untells_1 20 rfl rfl)
theorem dX4_untells_43 : decode cX4_untells 43 = .ok (.getfield 7, 3) := dk_180 0 7 (dk_at dksX4_untells_1 21 rfl rfl)
theorem dX4_untells_46 : decode cX4_untells 46 = .ok (.sipush 175, 3) := dk_17 0 175 (dk_at dksX4_untells_2 0 rfl rfl)
theorem dX4_untells_49 : decode cX4_untells 49 = .ok (.iload_n 2, 1) := dk_28 (dk_at dksX4_untells_2 3 rfl rfl)
theorem dX4_untells_50 : decode cX4_untells 50 = .ok (.iadd, 1) := dk_96 (dk_at dksX4_untells_2 4 rfl rfl)
theorem dX4_untells_51 : decode cX4_untells 51 = .ok (.iconst 0, 1) := dk_3 (dk_at dksX4_untells_2 5 rfl rfl)
theorem dX4_untells_52 : decode cX4_untells 52 = .ok (.iastore, 1) := dk_79 (dk_at dksX4_untells_2 6 rfl rfl)
theorem dX4_untells_53 : decode cX4_untells 53 = .ok (.aload_n 0, 1) := dk_42 (dk_at dksX4_untells_2 7 rfl rfl)
theorem dX4_untells_54 : decode cX4_untells 54 = .ok (.aload_n 0, 1) := dk_42 (dk_at dksX4_untells_2 8 rfl rfl)
theorem dX4_untells_55 : decode cX4_untells 55 = .ok (.invokevirtual 212, 3) := dk_182 0 212 (dk_at dksX4_untells_2 9 rfl rfl)
theorem dX4_untells_58 : decode cX4_untells 58 = .ok (.invokevirtual 206, 3) := dk_182 0 206 (dk_at dksX4_untells_2 12 rfl rfl)
theorem dX4_untells_61 : decode cX4_untells 61 = .ok (.ireturn, 1) := dk_172 (dk_at dksX4_untells_2 15 rfl rfl)
abbrev cX4_reasons : ByteArray := prog_14_method_16_code
def yX4_reasons : MethodName := ⟨RX4, "reasons", "(I)I"⟩
def dkwX4_reasons_1 : List UInt8 := [153, 0, 7, 4, 167, 0, 4, 3, 96, 61, 132, 3, 1, 167, 255, 225, 28, 172]
abbrev dktX4_reasons_1 : List UInt8 := dkwX4_reasons_1 ++ []
def dkwX4_reasons_0 : List UInt8 := [3, 61, 3, 62, 29, 42, 180, 0, 7, 16, 6, 46, 162, 0, 26, 28, 42, 29, 27, 182, 0, 124]
abbrev dktX4_reasons_0 : List UInt8 := dkwX4_reasons_0 ++ dktX4_reasons_1
theorem dksX4_reasons_0 : cX4_reasons.data.toList.drop 0 = dktX4_reasons_0 := by decide +kernel
theorem dksX4_reasons_1 : cX4_reasons.data.toList.drop 22 = dktX4_reasons_1 := dk_seg dksX4_reasons_0 22 rfl rfl
theorem dX4_reasons_0 : decode cX4_reasons 0 = .ok (.iconst 0, 1) := dk_3 (dk_at dksX4_reasons_0 0 rfl rfl)
theorem dX4_reasons_1 : decode cX4_reasons 1 = .ok (.istore_n 2, 1) := dk_61 (dk_at dksX4_reasons_0 1 rfl rfl)
theorem dX4_reasons_2 : decode cX4_reasons 2 = .ok (.iconst 0, 1) := dk_3 (dk_at dksX4_reasons_0 2 rfl rfl)
theorem dX4_reasons_3 : decode cX4_reasons 3 = .ok (.istore_n 3, 1) := dk_62 (dk_at dksX4_reasons_0 3 rfl rfl)
theorem dX4_reasons_4 : decode cX4_reasons 4 = .ok (.iload_n 3, 1) := dk_29 (dk_at dksX4_reasons_0 4 rfl rfl)
theorem dX4_reasons_5 : decode cX4_reasons 5 = .ok (.aload_n 0, 1) := dk_42 (dk_at dksX4_reasons_0 5 rfl rfl)
theorem dX4_reasons_6 : decode cX4_reasons 6 = .ok (.getfield 7, 3) := dk_180 0 7 (dk_at dksX4_reasons_0 6 rfl rfl)
theorem dX4_reasons_9 : decode cX4_reasons 9 = .ok (.bipush 6, 2) := dk_16 6 (dk_at dksX4_reasons_0 9 rfl rfl)
theorem dX4_reasons_11 : decode cX4_reasons 11 = .ok (.iaload, 1) := dk_46 (dk_at dksX4_reasons_0 11 rfl rfl)
theorem dX4_reasons_12 : decode cX4_reasons 12 = .ok (.if_icmp .ge 26, 3) := dk_162 0 26 (dk_at dksX4_reasons_0 12 rfl rfl)
theorem dX4_reasons_15 : decode cX4_reasons 15 = .ok (.iload_n 2, 1) := dk_28 (dk_at dksX4_reasons_0 15 rfl rfl)
theorem dX4_reasons_16 : decode cX4_reasons 16 = .ok (.aload_n 0, 1) := dk_42 (dk_at dksX4_reasons_0 16 rfl rfl)
theorem dX4_reasons_17 : decode cX4_reasons 17 = .ok (.iload_n 3, 1) := dk_29 (dk_at dksX4_reasons_0 17 rfl rfl)
theorem dX4_reasons_18 : decode cX4_reasons 18 = .ok (.iload_n 1, 1) := dk_27 (dk_at dksX4_reasons_0 18 rfl rfl)
theorem dX4_reasons_19 : decode cX4_reasons 19 = .ok (.invokevirtual 124, 3) := dk_182 0 124 (dk_at dksX4_reasons_0 19 rfl rfl)
theorem dX4_reasons_22 : decode cX4_reasons 22 = .ok (.ifCond .eq 7, 3) := dk_153 0 7 (dk_at dksX4_reasons_1 0 rfl rfl)
theorem dX4_reasons_25 : decode cX4_reasons 25 = .ok (.iconst 1, 1) := dk_4 (dk_at dksX4_reasons_1 3 rfl rfl)
theorem dX4_reasons_26 : decode cX4_reasons 26 = .ok (.goto 4, 3) := dk_167 0 4 (dk_at dksX4_reasons_1 4 rfl rfl)
theorem dX4_reasons_29 : decode cX4_reasons 29 = .ok (.iconst 0, 1) := dk_3 (dk_at dksX4_reasons_1 7 rfl rfl)
theorem dX4_reasons_30 : decode cX4_reasons 30 = .ok (.iadd, 1) := dk_96 (dk_at dksX4_reasons_1 8 rfl rfl)
theorem dX4_reasons_31 : decode cX4_reasons 31 = .ok (.istore_n 2, 1) := dk_61 (dk_at dksX4_reasons_1 9 rfl rfl)
theorem dX4_reasons_32 : decode cX4_reasons 32 = .ok (.iinc 3 1, 3) := dk_132 3 1 (dk_at dksX4_reasons_1 10 rfl rfl)
theorem dX4_reasons_35 : decode cX4_reasons 35 = .ok (.goto (-31), 3) := dk_167 255 225 (dk_at dksX4_reasons_1 13 rfl rfl)
theorem dX4_reasons_38 : decode cX4_reasons 38 = .ok (.iload_n 2, 1) := dk_28 (dk_at dksX4_reasons_1 16 rfl rfl)
theorem dX4_reasons_39 : decode cX4_reasons 39 = .ok (.ireturn, 1) := dk_172 (dk_at dksX4_reasons_1 17 rfl rfl)
abbrev cX4_isReasonOf : ByteArray := prog_14_method_15_code
def yX4_isReasonOf : MethodName := ⟨RX4, "isReasonOf", "(II)Z"⟩
def dkwX4_isReasonOf_0 : List UInt8 := [42, 27, 6, 182, 0, 120, 28, 160, 0, 7, 4, 167, 0, 4, 3, 172]
abbrev dktX4_isReasonOf_0 : List UInt8 := dkwX4_isReasonOf_0 ++ []
theorem dksX4_isReasonOf_0 : cX4_isReasonOf.data.toList.drop 0 = dktX4_isReasonOf_0 := by decide +kernel
theorem dX4_isReasonOf_0 : decode cX4_isReasonOf 0 = .ok (.aload_n 0, 1) := dk_42 (dk_at dksX4_isReasonOf_0 0 rfl rfl)
theorem dX4_isReasonOf_1 : decode cX4_isReasonOf 1 = .ok (.iload_n 1, 1) := dk_27 (dk_at dksX4_isReasonOf_0 1 rfl rfl)
theorem dX4_isReasonOf_2 : decode cX4_isReasonOf 2 = .ok (.iconst 3, 1) := dk_6 (dk_at dksX4_isReasonOf_0 2 rfl rfl)
theorem dX4_isReasonOf_3 : decode cX4_isReasonOf 3 = .ok (.invokevirtual 120, 3) := dk_182 0 120 (dk_at dksX4_isReasonOf_0 3 rfl rfl)
theorem dX4_isReasonOf_6 : decode cX4_isReasonOf 6 = .ok (.iload_n 2, 1) := dk_28 (dk_at dksX4_isReasonOf_0 6 rfl rfl)
theorem dX4_isReasonOf_7 : decode cX4_isReasonOf 7 = .ok (.if_icmp .ne 7, 3) := dk_160 0 7 (dk_at dksX4_isReasonOf_0 7 rfl rfl)
theorem dX4_isReasonOf_10 : decode cX4_isReasonOf 10 = .ok (.iconst 1, 1) := dk_4 (dk_at dksX4_isReasonOf_0 10 rfl rfl)
theorem dX4_isReasonOf_11 : decode cX4_isReasonOf 11 = .ok (.goto 4, 3) := dk_167 0 4 (dk_at dksX4_isReasonOf_0 11 rfl rfl)
theorem dX4_isReasonOf_14 : decode cX4_isReasonOf 14 = .ok (.iconst 0, 1) := dk_3 (dk_at dksX4_isReasonOf_0 14 rfl rfl)
theorem dX4_isReasonOf_15 : decode cX4_isReasonOf 15 = .ok (.ireturn, 1) := dk_172 (dk_at dksX4_isReasonOf_0 15 rfl rfl)
abbrev cX4_find : ByteArray := prog_14_method_48_code
def yX4_find : MethodName := ⟨RX4, "find", "(CII)I"⟩
def dkwX4_find_1 : List UInt8 := [182, 0, 101, 167, 0, 13, 42, 180, 0, 7, 16, 95, 21, 4, 96, 46, 172]
abbrev dktX4_find_1 : List UInt8 := dkwX4_find_1 ++ []
def dkwX4_find_0 : List UInt8 := [42, 3, 181, 0, 84, 42, 27, 28, 29, 182, 0, 165, 54, 4, 21, 4, 2, 160, 0, 11, 42, 4]
abbrev dktX4_find_0 : List UInt8 := dkwX4_find_0 ++ dktX4_find_1
theorem dksX4_find_0 : cX4_find.data.toList.drop 0 = dktX4_find_0 := by decide +kernel
theorem dksX4_find_1 : cX4_find.data.toList.drop 22 = dktX4_find_1 := dk_seg dksX4_find_0 22 rfl rfl
theorem dX4_find_0 : decode cX4_find 0 = .ok (.aload_n 0, 1) := dk_42 (dk_at dksX4_find_0 0 rfl rfl)
theorem dX4_find_1 : decode cX4_find 1 = .ok (.iconst 0, 1) := dk_3 (dk_at dksX4_find_0 1 rfl rfl)
theorem dX4_find_2 : decode cX4_find 2 = .ok (.putfield 84, 3) := dk_181 0 84 (dk_at dksX4_find_0 2 rfl rfl)
theorem dX4_find_5 : decode cX4_find 5 = .ok (.aload_n 0, 1) := dk_42 (dk_at dksX4_find_0 5 rfl rfl)
theorem dX4_find_6 : decode cX4_find 6 = .ok (.iload_n 1, 1) := dk_27 (dk_at dksX4_find_0 6 rfl rfl)
theorem dX4_find_7 : decode cX4_find 7 = .ok (.iload_n 2, 1) := dk_28 (dk_at dksX4_find_0 7 rfl rfl)
theorem dX4_find_8 : decode cX4_find 8 = .ok (.iload_n 3, 1) := dk_29 (dk_at dksX4_find_0 8 rfl rfl)
theorem dX4_find_9 : decode cX4_find 9 = .ok (.invokevirtual 165, 3) := dk_182 0 165 (dk_at dksX4_find_0 9 rfl rfl)
theorem dX4_find_12 : decode cX4_find 12 = .ok (.istore 4, 2) := dk_54 4 (dk_at dksX4_find_0 12 rfl rfl)
theorem dX4_find_14 : decode cX4_find 14 = .ok (.iload 4, 2) := dk_21 4 (dk_at dksX4_find_0 14 rfl rfl)
theorem dX4_find_16 : decode cX4_find 16 = .ok (.iconst (-1), 1) := dk_2 (dk_at dksX4_find_0 16 rfl rfl)
theorem dX4_find_17 : decode cX4_find 17 = .ok (.if_icmp .ne 11, 3) := dk_160 0 11 (dk_at dksX4_find_0 17 rfl rfl)
theorem dX4_find_20 : decode cX4_find 20 = .ok (.aload_n 0, 1) := dk_42 (dk_at dksX4_find_0 20 rfl rfl)
theorem dX4_find_21 : decode cX4_find 21 = .ok (.iconst 1, 1) := dk_4 (dk_at dksX4_find_0 21 rfl rfl)
theorem dX4_find_22 : decode cX4_find 22 = .ok (.invokevirtual 101, 3) := dk_182 0 101 (dk_at dksX4_find_1 0 rfl rfl)
theorem dX4_find_25 : decode cX4_find 25 = .ok (.goto 13, 3) := dk_167 0 13 (dk_at dksX4_find_1 3 rfl rfl)
theorem dX4_find_28 : decode cX4_find 28 = .ok (.aload_n 0, 1) := dk_42 (dk_at dksX4_find_1 6 rfl rfl)
theorem dX4_find_29 : decode cX4_find 29 = .ok (.getfield 7, 3) := dk_180 0 7 (dk_at dksX4_find_1 7 rfl rfl)
theorem dX4_find_32 : decode cX4_find 32 = .ok (.bipush 95, 2) := dk_16 95 (dk_at dksX4_find_1 10 rfl rfl)
theorem dX4_find_34 : decode cX4_find 34 = .ok (.iload 4, 2) := dk_21 4 (dk_at dksX4_find_1 12 rfl rfl)
theorem dX4_find_36 : decode cX4_find 36 = .ok (.iadd, 1) := dk_96 (dk_at dksX4_find_1 14 rfl rfl)
theorem dX4_find_37 : decode cX4_find 37 = .ok (.iaload, 1) := dk_46 (dk_at dksX4_find_1 15 rfl rfl)
theorem dX4_find_38 : decode cX4_find 38 = .ok (.ireturn, 1) := dk_172 (dk_at dksX4_find_1 16 rfl rfl)
abbrev cX4_factAt : ByteArray := prog_14_method_49_code
def yX4_factAt : MethodName := ⟨RX4, "factAt", "(I)I"⟩
def dkwX4_factAt_1 : List UInt8 := [180, 0, 7, 16, 95, 27, 96, 46, 167, 0, 8, 42, 4, 182, 0, 101, 172]
abbrev dktX4_factAt_1 : List UInt8 := dkwX4_factAt_1 ++ []
def dkwX4_factAt_0 : List UInt8 := [42, 3, 181, 0, 84, 27, 3, 42, 180, 0, 7, 4, 46, 4, 100, 184, 0, 209, 153, 0, 15, 42]
abbrev dktX4_factAt_0 : List UInt8 := dkwX4_factAt_0 ++ dktX4_factAt_1
theorem dksX4_factAt_0 : cX4_factAt.data.toList.drop 0 = dktX4_factAt_0 := by decide +kernel
theorem dksX4_factAt_1 : cX4_factAt.data.toList.drop 22 = dktX4_factAt_1 := dk_seg dksX4_factAt_0 22 rfl rfl
theorem dX4_factAt_0 : decode cX4_factAt 0 = .ok (.aload_n 0, 1) := dk_42 (dk_at dksX4_factAt_0 0 rfl rfl)
theorem dX4_factAt_1 : decode cX4_factAt 1 = .ok (.iconst 0, 1) := dk_3 (dk_at dksX4_factAt_0 1 rfl rfl)
theorem dX4_factAt_2 : decode cX4_factAt 2 = .ok (.putfield 84, 3) := dk_181 0 84 (dk_at dksX4_factAt_0 2 rfl rfl)
theorem dX4_factAt_5 : decode cX4_factAt 5 = .ok (.iload_n 1, 1) := dk_27 (dk_at dksX4_factAt_0 5 rfl rfl)
theorem dX4_factAt_6 : decode cX4_factAt 6 = .ok (.iconst 0, 1) := dk_3 (dk_at dksX4_factAt_0 6 rfl rfl)
theorem dX4_factAt_7 : decode cX4_factAt 7 = .ok (.aload_n 0, 1) := dk_42 (dk_at dksX4_factAt_0 7 rfl rfl)
theorem dX4_factAt_8 : decode cX4_factAt 8 = .ok (.getfield 7, 3) := dk_180 0 7 (dk_at dksX4_factAt_0 8 rfl rfl)
theorem dX4_factAt_11 : decode cX4_factAt 11 = .ok (.iconst 1, 1) := dk_4 (dk_at dksX4_factAt_0 11 rfl rfl)
theorem dX4_factAt_12 : decode cX4_factAt 12 = .ok (.iaload, 1) := dk_46 (dk_at dksX4_factAt_0 12 rfl rfl)
theorem dX4_factAt_13 : decode cX4_factAt 13 = .ok (.iconst 1, 1) := dk_4 (dk_at dksX4_factAt_0 13 rfl rfl)
theorem dX4_factAt_14 : decode cX4_factAt 14 = .ok (.isub, 1) := dk_100 (dk_at dksX4_factAt_0 14 rfl rfl)
theorem dX4_factAt_15 : decode cX4_factAt 15 = .ok (.invokestatic 209, 3) := dk_184 0 209 (dk_at dksX4_factAt_0 15 rfl rfl)
theorem dX4_factAt_18 : decode cX4_factAt 18 = .ok (.ifCond .eq 15, 3) := dk_153 0 15 (dk_at dksX4_factAt_0 18 rfl rfl)
theorem dX4_factAt_21 : decode cX4_factAt 21 = .ok (.aload_n 0, 1) := dk_42 (dk_at dksX4_factAt_0 21 rfl rfl)
theorem dX4_factAt_22 : decode cX4_factAt 22 = .ok (.getfield 7, 3) := dk_180 0 7 (dk_at dksX4_factAt_1 0 rfl rfl)
theorem dX4_factAt_25 : decode cX4_factAt 25 = .ok (.bipush 95, 2) := dk_16 95 (dk_at dksX4_factAt_1 3 rfl rfl)
theorem dX4_factAt_27 : decode cX4_factAt 27 = .ok (.iload_n 1, 1) := dk_27 (dk_at dksX4_factAt_1 5 rfl rfl)
theorem dX4_factAt_28 : decode cX4_factAt 28 = .ok (.iadd, 1) := dk_96 (dk_at dksX4_factAt_1 6 rfl rfl)
theorem dX4_factAt_29 : decode cX4_factAt 29 = .ok (.iaload, 1) := dk_46 (dk_at dksX4_factAt_1 7 rfl rfl)
theorem dX4_factAt_30 : decode cX4_factAt 30 = .ok (.goto 8, 3) := dk_167 0 8 (dk_at dksX4_factAt_1 8 rfl rfl)
theorem dX4_factAt_33 : decode cX4_factAt 33 = .ok (.aload_n 0, 1) := dk_42 (dk_at dksX4_factAt_1 11 rfl rfl)
theorem dX4_factAt_34 : decode cX4_factAt 34 = .ok (.iconst 1, 1) := dk_4 (dk_at dksX4_factAt_1 12 rfl rfl)
theorem dX4_factAt_35 : decode cX4_factAt 35 = .ok (.invokevirtual 101, 3) := dk_182 0 101 (dk_at dksX4_factAt_1 13 rfl rfl)
theorem dX4_factAt_38 : decode cX4_factAt 38 = .ok (.ireturn, 1) := dk_172 (dk_at dksX4_factAt_1 16 rfl rfl)
abbrev cX4_factOf : ByteArray := prog_14_method_53_code
def yX4_factOf : MethodName := ⟨RX4, "factOf", "(II)I"⟩
def dkwX4_factOf_5 : List UInt8 := [182, 1, 8, 42, 180, 0, 58, 29, 46, 172, 42, 5, 182, 0, 101, 172]
abbrev dktX4_factOf_5 : List UInt8 := dkwX4_factOf_5 ++ []
def dkwX4_factOf_4 : List UInt8 := [182, 0, 216, 172, 42, 180, 0, 7, 17, 0, 215, 29, 96, 46, 172, 42, 27, 182, 1, 5, 172, 42]
abbrev dktX4_factOf_4 : List UInt8 := dkwX4_factOf_4 ++ dktX4_factOf_5
def dkwX4_factOf_3 : List UInt8 := [180, 0, 7, 17, 0, 155, 29, 96, 46, 172, 42, 180, 0, 7, 17, 0, 175, 29, 96, 46, 172, 42, 27]
abbrev dktX4_factOf_3 : List UInt8 := dkwX4_factOf_3 ++ dktX4_factOf_4
def dkwX4_factOf_2 : List UInt8 := [42, 180, 0, 7, 16, 115, 29, 96, 46, 172, 42, 180, 0, 7, 17, 0, 135, 29, 96, 46, 172, 42]
abbrev dktX4_factOf_2 : List UInt8 := dkwX4_factOf_2 ++ dktX4_factOf_3
def dkwX4_factOf_1 : List UInt8 := [170, 0, 0, 0, 122, 0, 0, 0, 0, 0, 0, 0, 7, 0, 0, 0, 45, 0, 0, 0, 55, 0, 0, 0, 66, 0, 0, 0, 77, 0, 0, 0, 88, 0, 0, 0, 94, 0, 0, 0, 105, 0, 0, 0, 111]
abbrev dktX4_factOf_1 : List UInt8 := dkwX4_factOf_1 ++ dktX4_factOf_2
def dkwX4_factOf_0 : List UInt8 := [42, 3, 181, 0, 84, 42, 27, 182, 0, 128, 62, 29, 2, 160, 0, 9, 42, 4, 182, 0, 101, 172, 28]
abbrev dktX4_factOf_0 : List UInt8 := dkwX4_factOf_0 ++ dktX4_factOf_1
theorem dksX4_factOf_0 : cX4_factOf.data.toList.drop 0 = dktX4_factOf_0 := by decide +kernel
theorem dksX4_factOf_1 : cX4_factOf.data.toList.drop 23 = dktX4_factOf_1 := dk_seg dksX4_factOf_0 23 rfl rfl
theorem dksX4_factOf_2 : cX4_factOf.data.toList.drop 68 = dktX4_factOf_2 := dk_seg dksX4_factOf_1 45 rfl rfl
theorem dksX4_factOf_3 : cX4_factOf.data.toList.drop 90 = dktX4_factOf_3 := dk_seg dksX4_factOf_2 22 rfl rfl
theorem dksX4_factOf_4 : cX4_factOf.data.toList.drop 113 = dktX4_factOf_4 := dk_seg dksX4_factOf_3 23 rfl rfl
theorem dksX4_factOf_5 : cX4_factOf.data.toList.drop 135 = dktX4_factOf_5 := dk_seg dksX4_factOf_4 22 rfl rfl
theorem dX4_factOf_0 : decode cX4_factOf 0 = .ok (.aload_n 0, 1) := dk_42 (dk_at dksX4_factOf_0 0 rfl rfl)
theorem dX4_factOf_1 : decode cX4_factOf 1 = .ok (.iconst 0, 1) := dk_3 (dk_at dksX4_factOf_0 1 rfl rfl)
theorem dX4_factOf_2 : decode cX4_factOf 2 = .ok (.putfield 84, 3) := dk_181 0 84 (dk_at dksX4_factOf_0 2 rfl rfl)
theorem dX4_factOf_5 : decode cX4_factOf 5 = .ok (.aload_n 0, 1) := dk_42 (dk_at dksX4_factOf_0 5 rfl rfl)
theorem dX4_factOf_6 : decode cX4_factOf 6 = .ok (.iload_n 1, 1) := dk_27 (dk_at dksX4_factOf_0 6 rfl rfl)
theorem dX4_factOf_7 : decode cX4_factOf 7 = .ok (.invokevirtual 128, 3) := dk_182 0 128 (dk_at dksX4_factOf_0 7 rfl rfl)
theorem dX4_factOf_10 : decode cX4_factOf 10 = .ok (.istore_n 3, 1) := dk_62 (dk_at dksX4_factOf_0 10 rfl rfl)
theorem dX4_factOf_11 : decode cX4_factOf 11 = .ok (.iload_n 3, 1) := dk_29 (dk_at dksX4_factOf_0 11 rfl rfl)
theorem dX4_factOf_12 : decode cX4_factOf 12 = .ok (.iconst (-1), 1) := dk_2 (dk_at dksX4_factOf_0 12 rfl rfl)
theorem dX4_factOf_13 : decode cX4_factOf 13 = .ok (.if_icmp .ne 9, 3) := dk_160 0 9 (dk_at dksX4_factOf_0 13 rfl rfl)
theorem dX4_factOf_16 : decode cX4_factOf 16 = .ok (.aload_n 0, 1) := dk_42 (dk_at dksX4_factOf_0 16 rfl rfl)
theorem dX4_factOf_17 : decode cX4_factOf 17 = .ok (.iconst 1, 1) := dk_4 (dk_at dksX4_factOf_0 17 rfl rfl)
theorem dX4_factOf_18 : decode cX4_factOf 18 = .ok (.invokevirtual 101, 3) := dk_182 0 101 (dk_at dksX4_factOf_0 18 rfl rfl)
theorem dX4_factOf_21 : decode cX4_factOf 21 = .ok (.ireturn, 1) := dk_172 (dk_at dksX4_factOf_0 21 rfl rfl)
theorem dX4_factOf_22 : decode cX4_factOf 22 = .ok (.iload_n 2, 1) := dk_28 (dk_at dksX4_factOf_0 22 rfl rfl)
theorem dX4_factOf_23 : decode cX4_factOf 23 = .ok (.tableswitch 122 0 7 #[45, 55, 66, 77, 88, 94, 105, 111], 45) := by decide +kernel
theorem dX4_factOf_68 : decode cX4_factOf 68 = .ok (.aload_n 0, 1) := dk_42 (dk_at dksX4_factOf_2 0 rfl rfl)
theorem dX4_factOf_69 : decode cX4_factOf 69 = .ok (.getfield 7, 3) := dk_180 0 7 (dk_at dksX4_factOf_2 1 rfl rfl)
theorem dX4_factOf_72 : decode cX4_factOf 72 = .ok (.bipush 115, 2) := dk_16 115 (dk_at dksX4_factOf_2 4 rfl rfl)
theorem dX4_factOf_74 : decode cX4_factOf 74 = .ok (.iload_n 3, 1) := dk_29 (dk_at dksX4_factOf_2 6 rfl rfl)
theorem dX4_factOf_75 : decode cX4_factOf 75 = .ok (.iadd, 1) := dk_96 (dk_at dksX4_factOf_2 7 rfl rfl)
theorem dX4_factOf_76 : decode cX4_factOf 76 = .ok (.iaload, 1) := dk_46 (dk_at dksX4_factOf_2 8 rfl rfl)
theorem dX4_factOf_77 : decode cX4_factOf 77 = .ok (.ireturn, 1) := dk_172 (dk_at dksX4_factOf_2 9 rfl rfl)
theorem dX4_factOf_78 : decode cX4_factOf 78 = .ok (.aload_n 0, 1) := dk_42 (dk_at dksX4_factOf_2 10 rfl rfl)
theorem dX4_factOf_79 : decode cX4_factOf 79 = .ok (.getfield 7, 3) := dk_180 0 7 (dk_at dksX4_factOf_2 11 rfl rfl)
theorem dX4_factOf_82 : decode cX4_factOf 82 = .ok (.sipush 135, 3) := dk_17 0 135 (dk_at dksX4_factOf_2 14 rfl rfl)
theorem dX4_factOf_85 : decode cX4_factOf 85 = .ok (.iload_n 3, 1) := dk_29 (dk_at dksX4_factOf_2 17 rfl rfl)
theorem dX4_factOf_86 : decode cX4_factOf 86 = .ok (.iadd, 1) := dk_96 (dk_at dksX4_factOf_2 18 rfl rfl)
theorem dX4_factOf_87 : decode cX4_factOf 87 = .ok (.iaload, 1) := dk_46 (dk_at dksX4_factOf_2 19 rfl rfl)
theorem dX4_factOf_88 : decode cX4_factOf 88 = .ok (.ireturn, 1) := dk_172 (dk_at dksX4_factOf_2 20 rfl rfl)
theorem dX4_factOf_89 : decode cX4_factOf 89 = .ok (.aload_n 0, 1) := dk_42 (dk_at dksX4_factOf_2 21 rfl rfl)
theorem dX4_factOf_90 : decode cX4_factOf 90 = .ok (.getfield 7, 3) := dk_180 0 7 (dk_at dksX4_factOf_3 0 rfl rfl)
theorem dX4_factOf_93 : decode cX4_factOf 93 = .ok (.sipush 155, 3) := dk_17 0 155 (dk_at dksX4_factOf_3 3 rfl rfl)
theorem dX4_factOf_96 : decode cX4_factOf 96 = .ok (.iload_n 3, 1) := dk_29 (dk_at dksX4_factOf_3 6 rfl rfl)
theorem dX4_factOf_97 : decode cX4_factOf 97 = .ok (.iadd, 1) := dk_96 (dk_at dksX4_factOf_3 7 rfl rfl)
theorem dX4_factOf_98 : decode cX4_factOf 98 = .ok (.iaload, 1) := dk_46 (dk_at dksX4_factOf_3 8 rfl rfl)
theorem dX4_factOf_99 : decode cX4_factOf 99 = .ok (.ireturn, 1) := dk_172 (dk_at dksX4_factOf_3 9 rfl rfl)
theorem dX4_factOf_100 : decode cX4_factOf 100 = .ok (.aload_n 0, 1) := dk_42 (dk_at dksX4_factOf_3 10 rfl rfl)
theorem dX4_factOf_101 : decode cX4_factOf 101 = .ok (.getfield 7, 3) := dk_180 0 7 (dk_at dksX4_factOf_3 11 rfl rfl)
theorem dX4_factOf_104 : decode cX4_factOf 104 = .ok (.sipush 175, 3) := dk_17 0 175 (dk_at dksX4_factOf_3 14 rfl rfl)
theorem dX4_factOf_107 : decode cX4_factOf 107 = .ok (.iload_n 3, 1) := dk_29 (dk_at dksX4_factOf_3 17 rfl rfl)
theorem dX4_factOf_108 : decode cX4_factOf 108 = .ok (.iadd, 1) := dk_96 (dk_at dksX4_factOf_3 18 rfl rfl)
theorem dX4_factOf_109 : decode cX4_factOf 109 = .ok (.iaload, 1) := dk_46 (dk_at dksX4_factOf_3 19 rfl rfl)
theorem dX4_factOf_110 : decode cX4_factOf 110 = .ok (.ireturn, 1) := dk_172 (dk_at dksX4_factOf_3 20 rfl rfl)
theorem dX4_factOf_111 : decode cX4_factOf 111 = .ok (.aload_n 0, 1) := dk_42 (dk_at dksX4_factOf_3 21 rfl rfl)
theorem dX4_factOf_112 : decode cX4_factOf 112 = .ok (.iload_n 1, 1) := dk_27 (dk_at dksX4_factOf_3 22 rfl rfl)
theorem dX4_factOf_113 : decode cX4_factOf 113 = .ok (.invokevirtual 216, 3) := dk_182 0 216 (dk_at dksX4_factOf_4 0 rfl rfl)
theorem dX4_factOf_116 : decode cX4_factOf 116 = .ok (.ireturn, 1) := dk_172 (dk_at dksX4_factOf_4 3 rfl rfl)
theorem dX4_factOf_117 : decode cX4_factOf 117 = .ok (.aload_n 0, 1) := dk_42 (dk_at dksX4_factOf_4 4 rfl rfl)
theorem dX4_factOf_118 : decode cX4_factOf 118 = .ok (.getfield 7, 3) := dk_180 0 7 (dk_at dksX4_factOf_4 5 rfl rfl)
theorem dX4_factOf_121 : decode cX4_factOf 121 = .ok (.sipush 215, 3) := dk_17 0 215 (dk_at dksX4_factOf_4 8 rfl rfl)
theorem dX4_factOf_124 : decode cX4_factOf 124 = .ok (.iload_n 3, 1) := dk_29 (dk_at dksX4_factOf_4 11 rfl rfl)
theorem dX4_factOf_125 : decode cX4_factOf 125 = .ok (.iadd, 1) := dk_96 (dk_at dksX4_factOf_4 12 rfl rfl)
theorem dX4_factOf_126 : decode cX4_factOf 126 = .ok (.iaload, 1) := dk_46 (dk_at dksX4_factOf_4 13 rfl rfl)
theorem dX4_factOf_127 : decode cX4_factOf 127 = .ok (.ireturn, 1) := dk_172 (dk_at dksX4_factOf_4 14 rfl rfl)
theorem dX4_factOf_128 : decode cX4_factOf 128 = .ok (.aload_n 0, 1) := dk_42 (dk_at dksX4_factOf_4 15 rfl rfl)
theorem dX4_factOf_129 : decode cX4_factOf 129 = .ok (.iload_n 1, 1) := dk_27 (dk_at dksX4_factOf_4 16 rfl rfl)
theorem dX4_factOf_130 : decode cX4_factOf 130 = .ok (.invokevirtual 261, 3) := dk_182 1 5 (dk_at dksX4_factOf_4 17 rfl rfl)
theorem dX4_factOf_133 : decode cX4_factOf 133 = .ok (.ireturn, 1) := dk_172 (dk_at dksX4_factOf_4 20 rfl rfl)
theorem dX4_factOf_134 : decode cX4_factOf 134 = .ok (.aload_n 0, 1) := dk_42 (dk_at dksX4_factOf_4 21 rfl rfl)
theorem dX4_factOf_135 : decode cX4_factOf 135 = .ok (.invokevirtual 264, 3) := dk_182 1 8 (dk_at dksX4_factOf_5 0 rfl rfl)
theorem dX4_factOf_138 : decode cX4_factOf 138 = .ok (.aload_n 0, 1) := dk_42 (dk_at dksX4_factOf_5 3 rfl rfl)
theorem dX4_factOf_139 : decode cX4_factOf 139 = .ok (.getfield 58, 3) := dk_180 0 58 (dk_at dksX4_factOf_5 4 rfl rfl)
theorem dX4_factOf_142 : decode cX4_factOf 142 = .ok (.iload_n 3, 1) := dk_29 (dk_at dksX4_factOf_5 7 rfl rfl)
theorem dX4_factOf_143 : decode cX4_factOf 143 = .ok (.iaload, 1) := dk_46 (dk_at dksX4_factOf_5 8 rfl rfl)
theorem dX4_factOf_144 : decode cX4_factOf 144 = .ok (.ireturn, 1) := dk_172 (dk_at dksX4_factOf_5 9 rfl rfl)
theorem dX4_factOf_145 : decode cX4_factOf 145 = .ok (.aload_n 0, 1) := dk_42 (dk_at dksX4_factOf_5 10 rfl rfl)
theorem dX4_factOf_146 : decode cX4_factOf 146 = .ok (.iconst 2, 1) := dk_5 (dk_at dksX4_factOf_5 11 rfl rfl)
theorem dX4_factOf_147 : decode cX4_factOf 147 = .ok (.invokevirtual 101, 3) := dk_182 0 101 (dk_at dksX4_factOf_5 12 rfl rfl)
theorem dX4_factOf_150 : decode cX4_factOf 150 = .ok (.ireturn, 1) := dk_172 (dk_at dksX4_factOf_5 15 rfl rfl)
abbrev cX4_users : ByteArray := prog_14_method_50_code
def yX4_users : MethodName := ⟨RX4, "users", "(I)I"⟩
def dkwX4_users_2 : List UInt8 := [29, 5, 182, 0, 120, 27, 160, 0, 7, 4, 167, 0, 4, 3, 96, 61, 132, 3, 1, 167, 255, 194, 28, 172]
abbrev dktX4_users_2 : List UInt8 := dkwX4_users_2 ++ []
def dkwX4_users_1 : List UInt8 := [159, 0, 37, 42, 29, 6, 182, 0, 120, 27, 159, 0, 27, 42, 29, 4, 182, 0, 120, 27, 159, 0, 13, 42]
abbrev dktX4_users_1 : List UInt8 := dkwX4_users_1 ++ dktX4_users_2
def dkwX4_users_0 : List UInt8 := [3, 61, 3, 62, 29, 42, 180, 0, 7, 16, 6, 46, 162, 0, 57, 28, 42, 29, 6, 182, 0, 120, 2]
abbrev dktX4_users_0 : List UInt8 := dkwX4_users_0 ++ dktX4_users_1
theorem dksX4_users_0 : cX4_users.data.toList.drop 0 = dktX4_users_0 := by decide +kernel
theorem dksX4_users_1 : cX4_users.data.toList.drop 23 = dktX4_users_1 := dk_seg dksX4_users_0 23 rfl rfl
theorem dksX4_users_2 : cX4_users.data.toList.drop 47 = dktX4_users_2 := dk_seg dksX4_users_1 24 rfl rfl
theorem dX4_users_0 : decode cX4_users 0 = .ok (.iconst 0, 1) := dk_3 (dk_at dksX4_users_0 0 rfl rfl)
theorem dX4_users_1 : decode cX4_users 1 = .ok (.istore_n 2, 1) := dk_61 (dk_at dksX4_users_0 1 rfl rfl)
theorem dX4_users_2 : decode cX4_users 2 = .ok (.iconst 0, 1) := dk_3 (dk_at dksX4_users_0 2 rfl rfl)
theorem dX4_users_3 : decode cX4_users 3 = .ok (.istore_n 3, 1) := dk_62 (dk_at dksX4_users_0 3 rfl rfl)
theorem dX4_users_4 : decode cX4_users 4 = .ok (.iload_n 3, 1) := dk_29 (dk_at dksX4_users_0 4 rfl rfl)
theorem dX4_users_5 : decode cX4_users 5 = .ok (.aload_n 0, 1) := dk_42 (dk_at dksX4_users_0 5 rfl rfl)
theorem dX4_users_6 : decode cX4_users 6 = .ok (.getfield 7, 3) := dk_180 0 7 (dk_at dksX4_users_0 6 rfl rfl)
theorem dX4_users_9 : decode cX4_users 9 = .ok (.bipush 6, 2) := dk_16 6 (dk_at dksX4_users_0 9 rfl rfl)
theorem dX4_users_11 : decode cX4_users 11 = .ok (.iaload, 1) := dk_46 (dk_at dksX4_users_0 11 rfl rfl)
theorem dX4_users_12 : decode cX4_users 12 = .ok (.if_icmp .ge 57, 3) := dk_162 0 57 (dk_at dksX4_users_0 12 rfl rfl)
theorem dX4_users_15 : decode cX4_users 15 = .ok (.iload_n 2, 1) := dk_28 (dk_at dksX4_users_0 15 rfl rfl)
theorem dX4_users_16 : decode cX4_users 16 = .ok (.aload_n 0, 1) := dk_42 (dk_at dksX4_users_0 16 rfl rfl)
theorem dX4_users_17 : decode cX4_users 17 = .ok (.iload_n 3, 1) := dk_29 (dk_at dksX4_users_0 17 rfl rfl)
theorem dX4_users_18 : decode cX4_users 18 = .ok (.iconst 3, 1) := dk_6 (dk_at dksX4_users_0 18 rfl rfl)
theorem dX4_users_19 : decode cX4_users 19 = .ok (.invokevirtual 120, 3) := dk_182 0 120 (dk_at dksX4_users_0 19 rfl rfl)
theorem dX4_users_22 : decode cX4_users 22 = .ok (.iconst (-1), 1) := dk_2 (dk_at dksX4_users_0 22 rfl rfl)
theorem dX4_users_23 : decode cX4_users 23 = .ok (.if_icmp .eq 37, 3) := dk_159 0 37 (dk_at dksX4_users_1 0 rfl rfl)
theorem dX4_users_26 : decode cX4_users 26 = .ok (.aload_n 0, 1) := dk_42 (dk_at dksX4_users_1 3 rfl rfl)
theorem dX4_users_27 : decode cX4_users 27 = .ok (.iload_n 3, 1) := dk_29 (dk_at dksX4_users_1 4 rfl rfl)
theorem dX4_users_28 : decode cX4_users 28 = .ok (.iconst 3, 1) := dk_6 (dk_at dksX4_users_1 5 rfl rfl)
theorem dX4_users_29 : decode cX4_users 29 = .ok (.invokevirtual 120, 3) := dk_182 0 120 (dk_at dksX4_users_1 6 rfl rfl)
theorem dX4_users_32 : decode cX4_users 32 = .ok (.iload_n 1, 1) := dk_27 (dk_at dksX4_users_1 9 rfl rfl)
theorem dX4_users_33 : decode cX4_users 33 = .ok (.if_icmp .eq 27, 3) := dk_159 0 27 (dk_at dksX4_users_1 10 rfl rfl)
theorem dX4_users_36 : decode cX4_users 36 = .ok (.aload_n 0, 1) := dk_42 (dk_at dksX4_users_1 13 rfl rfl)
theorem dX4_users_37 : decode cX4_users 37 = .ok (.iload_n 3, 1) := dk_29 (dk_at dksX4_users_1 14 rfl rfl)
theorem dX4_users_38 : decode cX4_users 38 = .ok (.iconst 1, 1) := dk_4 (dk_at dksX4_users_1 15 rfl rfl)
theorem dX4_users_39 : decode cX4_users 39 = .ok (.invokevirtual 120, 3) := dk_182 0 120 (dk_at dksX4_users_1 16 rfl rfl)
theorem dX4_users_42 : decode cX4_users 42 = .ok (.iload_n 1, 1) := dk_27 (dk_at dksX4_users_1 19 rfl rfl)
theorem dX4_users_43 : decode cX4_users 43 = .ok (.if_icmp .eq 13, 3) := dk_159 0 13 (dk_at dksX4_users_1 20 rfl rfl)
theorem dX4_users_46 : decode cX4_users 46 = .ok (.aload_n 0, 1) := dk_42 (dk_at dksX4_users_1 23 rfl rfl)
theorem dX4_users_47 : decode cX4_users 47 = .ok (.iload_n 3, 1) := dk_29 (dk_at dksX4_users_2 0 rfl rfl)
theorem dX4_users_48 : decode cX4_users 48 = .ok (.iconst 2, 1) := dk_5 (dk_at dksX4_users_2 1 rfl rfl)
theorem dX4_users_49 : decode cX4_users 49 = .ok (.invokevirtual 120, 3) := dk_182 0 120 (dk_at dksX4_users_2 2 rfl rfl)
theorem dX4_users_52 : decode cX4_users 52 = .ok (.iload_n 1, 1) := dk_27 (dk_at dksX4_users_2 5 rfl rfl)
theorem dX4_users_53 : decode cX4_users 53 = .ok (.if_icmp .ne 7, 3) := dk_160 0 7 (dk_at dksX4_users_2 6 rfl rfl)
theorem dX4_users_56 : decode cX4_users 56 = .ok (.iconst 1, 1) := dk_4 (dk_at dksX4_users_2 9 rfl rfl)
theorem dX4_users_57 : decode cX4_users 57 = .ok (.goto 4, 3) := dk_167 0 4 (dk_at dksX4_users_2 10 rfl rfl)
theorem dX4_users_60 : decode cX4_users 60 = .ok (.iconst 0, 1) := dk_3 (dk_at dksX4_users_2 13 rfl rfl)
theorem dX4_users_61 : decode cX4_users 61 = .ok (.iadd, 1) := dk_96 (dk_at dksX4_users_2 14 rfl rfl)
theorem dX4_users_62 : decode cX4_users 62 = .ok (.istore_n 2, 1) := dk_61 (dk_at dksX4_users_2 15 rfl rfl)
theorem dX4_users_63 : decode cX4_users 63 = .ok (.iinc 3 1, 3) := dk_132 3 1 (dk_at dksX4_users_2 16 rfl rfl)
theorem dX4_users_66 : decode cX4_users 66 = .ok (.goto (-62), 3) := dk_167 255 194 (dk_at dksX4_users_2 19 rfl rfl)
theorem dX4_users_69 : decode cX4_users 69 = .ok (.iload_n 2, 1) := dk_28 (dk_at dksX4_users_2 22 rfl rfl)
theorem dX4_users_70 : decode cX4_users 70 = .ok (.ireturn, 1) := dk_172 (dk_at dksX4_users_2 23 rfl rfl)
abbrev cX4_measures : ByteArray := prog_14_method_52_code
def yX4_measures : MethodName := ⟨RX4, "measures", "()V"⟩
def dkwX4_measures_7 : List UInt8 := [167, 255, 141, 177]
abbrev dktX4_measures_7 : List UInt8 := dkwX4_measures_7 ++ []
def dkwX4_measures_6 : List UInt8 := [161, 0, 6, 167, 0, 13, 42, 180, 0, 58, 29, 21, 6, 79, 4, 60, 132, 2, 1, 167, 255, 152]
abbrev dktX4_measures_6 : List UInt8 := dkwX4_measures_6 ++ dktX4_measures_7
def dkwX4_measures_5 : List UInt8 := [164, 0, 8, 21, 4, 167, 0, 5, 21, 5, 4, 96, 54, 6, 21, 6, 42, 180, 0, 58, 29, 46]
abbrev dktX4_measures_5 : List UInt8 := dkwX4_measures_5 ++ dktX4_measures_6
def dkwX4_measures_4 : List UInt8 := [182, 0, 120, 182, 1, 2, 54, 4, 42, 42, 28, 5, 182, 0, 120, 182, 1, 2, 54, 5, 21, 4, 21, 5]
abbrev dktX4_measures_4 : List UInt8 := dkwX4_measures_4 ++ dktX4_measures_5
def dkwX4_measures_3 : List UInt8 := [2, 160, 0, 6, 167, 0, 80, 42, 42, 28, 6, 182, 0, 120, 182, 0, 128, 62, 42, 42, 28, 4]
abbrev dktX4_measures_3 : List UInt8 := dkwX4_measures_3 ++ dktX4_measures_4
def dkwX4_measures_2 : List UInt8 := [153, 0, 117, 3, 60, 3, 61, 28, 42, 180, 0, 7, 16, 6, 46, 162, 0, 99, 42, 28, 6, 182, 0, 120]
abbrev dktX4_measures_2 : List UInt8 := dkwX4_measures_2 ++ dktX4_measures_3
def dkwX4_measures_1 : List UInt8 := [27, 96, 46, 4, 160, 0, 7, 3, 167, 0, 6, 19, 1, 1, 79, 132, 1, 1, 167, 255, 216, 4, 60, 27]
abbrev dktX4_measures_1 : List UInt8 := dkwX4_measures_1 ++ dktX4_measures_2
def dkwX4_measures_0 : List UInt8 := [3, 60, 27, 42, 180, 0, 7, 4, 46, 162, 0, 36, 42, 180, 0, 58, 27, 42, 180, 0, 7, 17, 0, 175]
abbrev dktX4_measures_0 : List UInt8 := dkwX4_measures_0 ++ dktX4_measures_1
theorem dksX4_measures_0 : cX4_measures.data.toList.drop 0 = dktX4_measures_0 := by decide +kernel
theorem dksX4_measures_1 : cX4_measures.data.toList.drop 24 = dktX4_measures_1 := dk_seg dksX4_measures_0 24 rfl rfl
theorem dksX4_measures_2 : cX4_measures.data.toList.drop 48 = dktX4_measures_2 := dk_seg dksX4_measures_1 24 rfl rfl
theorem dksX4_measures_3 : cX4_measures.data.toList.drop 72 = dktX4_measures_3 := dk_seg dksX4_measures_2 24 rfl rfl
theorem dksX4_measures_4 : cX4_measures.data.toList.drop 94 = dktX4_measures_4 := dk_seg dksX4_measures_3 22 rfl rfl
theorem dksX4_measures_5 : cX4_measures.data.toList.drop 118 = dktX4_measures_5 := dk_seg dksX4_measures_4 24 rfl rfl
theorem dksX4_measures_6 : cX4_measures.data.toList.drop 140 = dktX4_measures_6 := dk_seg dksX4_measures_5 22 rfl rfl
theorem dksX4_measures_7 : cX4_measures.data.toList.drop 162 = dktX4_measures_7 := dk_seg dksX4_measures_6 22 rfl rfl
theorem dX4_measures_0 : decode cX4_measures 0 = .ok (.iconst 0, 1) := dk_3 (dk_at dksX4_measures_0 0 rfl rfl)
theorem dX4_measures_1 : decode cX4_measures 1 = .ok (.istore_n 1, 1) := dk_60 (dk_at dksX4_measures_0 1 rfl rfl)
theorem dX4_measures_2 : decode cX4_measures 2 = .ok (.iload_n 1, 1) := dk_27 (dk_at dksX4_measures_0 2 rfl rfl)
theorem dX4_measures_3 : decode cX4_measures 3 = .ok (.aload_n 0, 1) := dk_42 (dk_at dksX4_measures_0 3 rfl rfl)
theorem dX4_measures_4 : decode cX4_measures 4 = .ok (.getfield 7, 3) := dk_180 0 7 (dk_at dksX4_measures_0 4 rfl rfl)
theorem dX4_measures_7 : decode cX4_measures 7 = .ok (.iconst 1, 1) := dk_4 (dk_at dksX4_measures_0 7 rfl rfl)
theorem dX4_measures_8 : decode cX4_measures 8 = .ok (.iaload, 1) := dk_46 (dk_at dksX4_measures_0 8 rfl rfl)
theorem dX4_measures_9 : decode cX4_measures 9 = .ok (.if_icmp .ge 36, 3) := dk_162 0 36 (dk_at dksX4_measures_0 9 rfl rfl)
theorem dX4_measures_12 : decode cX4_measures 12 = .ok (.aload_n 0, 1) := dk_42 (dk_at dksX4_measures_0 12 rfl rfl)
theorem dX4_measures_13 : decode cX4_measures 13 = .ok (.getfield 58, 3) := dk_180 0 58 (dk_at dksX4_measures_0 13 rfl rfl)
theorem dX4_measures_16 : decode cX4_measures 16 = .ok (.iload_n 1, 1) := dk_27 (dk_at dksX4_measures_0 16 rfl rfl)
theorem dX4_measures_17 : decode cX4_measures 17 = .ok (.aload_n 0, 1) := dk_42 (dk_at dksX4_measures_0 17 rfl rfl)
theorem dX4_measures_18 : decode cX4_measures 18 = .ok (.getfield 7, 3) := dk_180 0 7 (dk_at dksX4_measures_0 18 rfl rfl)
theorem dX4_measures_21 : decode cX4_measures 21 = .ok (.sipush 175, 3) := dk_17 0 175 (dk_at dksX4_measures_0 21 rfl rfl)
theorem dX4_measures_24 : decode cX4_measures 24 = .ok (.iload_n 1, 1) := dk_27 (dk_at dksX4_measures_1 0 rfl rfl)
theorem dX4_measures_25 : decode cX4_measures 25 = .ok (.iadd, 1) := dk_96 (dk_at dksX4_measures_1 1 rfl rfl)
theorem dX4_measures_26 : decode cX4_measures 26 = .ok (.iaload, 1) := dk_46 (dk_at dksX4_measures_1 2 rfl rfl)
theorem dX4_measures_27 : decode cX4_measures 27 = .ok (.iconst 1, 1) := dk_4 (dk_at dksX4_measures_1 3 rfl rfl)
theorem dX4_measures_28 : decode cX4_measures 28 = .ok (.if_icmp .ne 7, 3) := dk_160 0 7 (dk_at dksX4_measures_1 4 rfl rfl)
theorem dX4_measures_31 : decode cX4_measures 31 = .ok (.iconst 0, 1) := dk_3 (dk_at dksX4_measures_1 7 rfl rfl)
theorem dX4_measures_32 : decode cX4_measures 32 = .ok (.goto 6, 3) := dk_167 0 6 (dk_at dksX4_measures_1 8 rfl rfl)
theorem dX4_measures_35 : decode cX4_measures 35 = .ok (.ldc_w 257, 3) := dk_19 1 1 (dk_at dksX4_measures_1 11 rfl rfl)
theorem dX4_measures_38 : decode cX4_measures 38 = .ok (.iastore, 1) := dk_79 (dk_at dksX4_measures_1 14 rfl rfl)
theorem dX4_measures_39 : decode cX4_measures 39 = .ok (.iinc 1 1, 3) := dk_132 1 1 (dk_at dksX4_measures_1 15 rfl rfl)
theorem dX4_measures_42 : decode cX4_measures 42 = .ok (.goto (-40), 3) := dk_167 255 216 (dk_at dksX4_measures_1 18 rfl rfl)
theorem dX4_measures_45 : decode cX4_measures 45 = .ok (.iconst 1, 1) := dk_4 (dk_at dksX4_measures_1 21 rfl rfl)
theorem dX4_measures_46 : decode cX4_measures 46 = .ok (.istore_n 1, 1) := dk_60 (dk_at dksX4_measures_1 22 rfl rfl)
theorem dX4_measures_47 : decode cX4_measures 47 = .ok (.iload_n 1, 1) := dk_27 (dk_at dksX4_measures_1 23 rfl rfl)
theorem dX4_measures_48 : decode cX4_measures 48 = .ok (.ifCond .eq 117, 3) := dk_153 0 117 (dk_at dksX4_measures_2 0 rfl rfl)
theorem dX4_measures_51 : decode cX4_measures 51 = .ok (.iconst 0, 1) := dk_3 (dk_at dksX4_measures_2 3 rfl rfl)
theorem dX4_measures_52 : decode cX4_measures 52 = .ok (.istore_n 1, 1) := dk_60 (dk_at dksX4_measures_2 4 rfl rfl)
theorem dX4_measures_53 : decode cX4_measures 53 = .ok (.iconst 0, 1) := dk_3 (dk_at dksX4_measures_2 5 rfl rfl)
theorem dX4_measures_54 : decode cX4_measures 54 = .ok (.istore_n 2, 1) := dk_61 (dk_at dksX4_measures_2 6 rfl rfl)
theorem dX4_measures_55 : decode cX4_measures 55 = .ok (.iload_n 2, 1) := dk_28 (dk_at dksX4_measures_2 7 rfl rfl)
theorem dX4_measures_56 : decode cX4_measures 56 = .ok (.aload_n 0, 1) := dk_42 (dk_at dksX4_measures_2 8 rfl rfl)
theorem dX4_measures_57 : decode cX4_measures 57 = .ok (.getfield 7, 3) := dk_180 0 7 (dk_at dksX4_measures_2 9 rfl rfl)
theorem dX4_measures_60 : decode cX4_measures 60 = .ok (.bipush 6, 2) := dk_16 6 (dk_at dksX4_measures_2 12 rfl rfl)
theorem dX4_measures_62 : decode cX4_measures 62 = .ok (.iaload, 1) := dk_46 (dk_at dksX4_measures_2 14 rfl rfl)
theorem dX4_measures_63 : decode cX4_measures 63 = .ok (.if_icmp .ge 99, 3) := dk_162 0 99 (dk_at dksX4_measures_2 15 rfl rfl)
theorem dX4_measures_66 : decode cX4_measures 66 = .ok (.aload_n 0, 1) := dk_42 (dk_at dksX4_measures_2 18 rfl rfl)
theorem dX4_measures_67 : decode cX4_measures 67 = .ok (.iload_n 2, 1) := dk_28 (dk_at dksX4_measures_2 19 rfl rfl)
theorem dX4_measures_68 : decode cX4_measures 68 = .ok (.iconst 3, 1) := dk_6 (dk_at dksX4_measures_2 20 rfl rfl)
theorem dX4_measures_69 : decode cX4_measures 69 = .ok (.invokevirtual 120, 3) := dk_182 0 120 (dk_at dksX4_measures_2 21 rfl rfl)
theorem dX4_measures_72 : decode cX4_measures 72 = .ok (.iconst (-1), 1) := dk_2 (dk_at dksX4_measures_3 0 rfl rfl)
theorem dX4_measures_73 : decode cX4_measures 73 = .ok (.if_icmp .ne 6, 3) := dk_160 0 6 (dk_at dksX4_measures_3 1 rfl rfl)
theorem dX4_measures_76 : decode cX4_measures 76 = .ok (.goto 80, 3) := dk_167 0 80 (dk_at dksX4_measures_3 4 rfl rfl)
theorem dX4_measures_79 : decode cX4_measures 79 = .ok (.aload_n 0, 1) := dk_42 (dk_at dksX4_measures_3 7 rfl rfl)
theorem dX4_measures_80 : decode cX4_measures 80 = .ok (.aload_n 0, 1) := dk_42 (dk_at dksX4_measures_3 8 rfl rfl)
theorem dX4_measures_81 : decode cX4_measures 81 = .ok (.iload_n 2, 1) := dk_28 (dk_at dksX4_measures_3 9 rfl rfl)
theorem dX4_measures_82 : decode cX4_measures 82 = .ok (.iconst 3, 1) := dk_6 (dk_at dksX4_measures_3 10 rfl rfl)
theorem dX4_measures_83 : decode cX4_measures 83 = .ok (.invokevirtual 120, 3) := dk_182 0 120 (dk_at dksX4_measures_3 11 rfl rfl)
theorem dX4_measures_86 : decode cX4_measures 86 = .ok (.invokevirtual 128, 3) := dk_182 0 128 (dk_at dksX4_measures_3 14 rfl rfl)
theorem dX4_measures_89 : decode cX4_measures 89 = .ok (.istore_n 3, 1) := dk_62 (dk_at dksX4_measures_3 17 rfl rfl)
theorem dX4_measures_90 : decode cX4_measures 90 = .ok (.aload_n 0, 1) := dk_42 (dk_at dksX4_measures_3 18 rfl rfl)
theorem dX4_measures_91 : decode cX4_measures 91 = .ok (.aload_n 0, 1) := dk_42 (dk_at dksX4_measures_3 19 rfl rfl)
theorem dX4_measures_92 : decode cX4_measures 92 = .ok (.iload_n 2, 1) := dk_28 (dk_at dksX4_measures_3 20 rfl rfl)
theorem dX4_measures_93 : decode cX4_measures 93 = .ok (.iconst 1, 1) := dk_4 (dk_at dksX4_measures_3 21 rfl rfl)
theorem dX4_measures_94 : decode cX4_measures 94 = .ok (.invokevirtual 120, 3) := dk_182 0 120 (dk_at dksX4_measures_4 0 rfl rfl)
theorem dX4_measures_97 : decode cX4_measures 97 = .ok (.invokevirtual 258, 3) := dk_182 1 2 (dk_at dksX4_measures_4 3 rfl rfl)
theorem dX4_measures_100 : decode cX4_measures 100 = .ok (.istore 4, 2) := dk_54 4 (dk_at dksX4_measures_4 6 rfl rfl)
theorem dX4_measures_102 : decode cX4_measures 102 = .ok (.aload_n 0, 1) := dk_42 (dk_at dksX4_measures_4 8 rfl rfl)
theorem dX4_measures_103 : decode cX4_measures 103 = .ok (.aload_n 0, 1) := dk_42 (dk_at dksX4_measures_4 9 rfl rfl)
theorem dX4_measures_104 : decode cX4_measures 104 = .ok (.iload_n 2, 1) := dk_28 (dk_at dksX4_measures_4 10 rfl rfl)
theorem dX4_measures_105 : decode cX4_measures 105 = .ok (.iconst 2, 1) := dk_5 (dk_at dksX4_measures_4 11 rfl rfl)
theorem dX4_measures_106 : decode cX4_measures 106 = .ok (.invokevirtual 120, 3) := dk_182 0 120 (dk_at dksX4_measures_4 12 rfl rfl)
theorem dX4_measures_109 : decode cX4_measures 109 = .ok (.invokevirtual 258, 3) := dk_182 1 2 (dk_at dksX4_measures_4 15 rfl rfl)
theorem dX4_measures_112 : decode cX4_measures 112 = .ok (.istore 5, 2) := dk_54 5 (dk_at dksX4_measures_4 18 rfl rfl)
theorem dX4_measures_114 : decode cX4_measures 114 = .ok (.iload 4, 2) := dk_21 4 (dk_at dksX4_measures_4 20 rfl rfl)
theorem dX4_measures_116 : decode cX4_measures 116 = .ok (.iload 5, 2) := dk_21 5 (dk_at dksX4_measures_4 22 rfl rfl)
theorem dX4_measures_118 : decode cX4_measures 118 = .ok (.if_icmp .le 8, 3) := dk_164 0 8 (dk_at dksX4_measures_5 0 rfl rfl)
theorem dX4_measures_121 : decode cX4_measures 121 = .ok (.iload 4, 2) := dk_21 4 (dk_at dksX4_measures_5 3 rfl rfl)
theorem dX4_measures_123 : decode cX4_measures 123 = .ok (.goto 5, 3) := dk_167 0 5 (dk_at dksX4_measures_5 5 rfl rfl)
theorem dX4_measures_126 : decode cX4_measures 126 = .ok (.iload 5, 2) := dk_21 5 (dk_at dksX4_measures_5 8 rfl rfl)
theorem dX4_measures_128 : decode cX4_measures 128 = .ok (.iconst 1, 1) := dk_4 (dk_at dksX4_measures_5 10 rfl rfl)
theorem dX4_measures_129 : decode cX4_measures 129 = .ok (.iadd, 1) := dk_96 (dk_at dksX4_measures_5 11 rfl rfl)
theorem dX4_measures_130 : decode cX4_measures 130 = .ok (.istore 6, 2) := dk_54 6 (dk_at dksX4_measures_5 12 rfl rfl)
theorem dX4_measures_132 : decode cX4_measures 132 = .ok (.iload 6, 2) := dk_21 6 (dk_at dksX4_measures_5 14 rfl rfl)
theorem dX4_measures_134 : decode cX4_measures 134 = .ok (.aload_n 0, 1) := dk_42 (dk_at dksX4_measures_5 16 rfl rfl)
theorem dX4_measures_135 : decode cX4_measures 135 = .ok (.getfield 58, 3) := dk_180 0 58 (dk_at dksX4_measures_5 17 rfl rfl)
theorem dX4_measures_138 : decode cX4_measures 138 = .ok (.iload_n 3, 1) := dk_29 (dk_at dksX4_measures_5 20 rfl rfl)
theorem dX4_measures_139 : decode cX4_measures 139 = .ok (.iaload, 1) := dk_46 (dk_at dksX4_measures_5 21 rfl rfl)
theorem dX4_measures_140 : decode cX4_measures 140 = .ok (.if_icmp .lt 6, 3) := dk_161 0 6 (dk_at dksX4_measures_6 0 rfl rfl)
theorem dX4_measures_143 : decode cX4_measures 143 = .ok (.goto 13, 3) := dk_167 0 13 (dk_at dksX4_measures_6 3 rfl rfl)
theorem dX4_measures_146 : decode cX4_measures 146 = .ok (.aload_n 0, 1) := dk_42 (dk_at dksX4_measures_6 6 rfl rfl)
theorem dX4_measures_147 : decode cX4_measures 147 = .ok (.getfield 58, 3) := dk_180 0 58 (dk_at dksX4_measures_6 7 rfl rfl)
theorem dX4_measures_150 : decode cX4_measures 150 = .ok (.iload_n 3, 1) := dk_29 (dk_at dksX4_measures_6 10 rfl rfl)
theorem dX4_measures_151 : decode cX4_measures 151 = .ok (.iload 6, 2) := dk_21 6 (dk_at dksX4_measures_6 11 rfl rfl)
theorem dX4_measures_153 : decode cX4_measures 153 = .ok (.iastore, 1) := dk_79 (dk_at dksX4_measures_6 13 rfl rfl)
theorem dX4_measures_154 : decode cX4_measures 154 = .ok (.iconst 1, 1) := dk_4 (dk_at dksX4_measures_6 14 rfl rfl)
theorem dX4_measures_155 : decode cX4_measures 155 = .ok (.istore_n 1, 1) := dk_60 (dk_at dksX4_measures_6 15 rfl rfl)
theorem dX4_measures_156 : decode cX4_measures 156 = .ok (.iinc 2 1, 3) := dk_132 2 1 (dk_at dksX4_measures_6 16 rfl rfl)
theorem dX4_measures_159 : decode cX4_measures 159 = .ok (.goto (-104), 3) := dk_167 255 152 (dk_at dksX4_measures_6 19 rfl rfl)
theorem dX4_measures_162 : decode cX4_measures 162 = .ok (.goto (-115), 3) := dk_167 255 141 (dk_at dksX4_measures_7 0 rfl rfl)
theorem dX4_measures_165 : decode cX4_measures 165 = .ok (.return_, 1) := dk_177 (dk_at dksX4_measures_7 3 rfl rfl)
abbrev cX4_depthOf : ByteArray := prog_14_method_51_code
def yX4_depthOf : MethodName := ⟨RX4, "depthOf", "(I)I"⟩
def dkwX4_depthOf_0 : List UInt8 := [27, 2, 160, 0, 7, 3, 167, 0, 13, 42, 180, 0, 58, 42, 27, 182, 0, 128, 46, 172]
abbrev dktX4_depthOf_0 : List UInt8 := dkwX4_depthOf_0 ++ []
theorem dksX4_depthOf_0 : cX4_depthOf.data.toList.drop 0 = dktX4_depthOf_0 := by decide +kernel
theorem dX4_depthOf_0 : decode cX4_depthOf 0 = .ok (.iload_n 1, 1) := dk_27 (dk_at dksX4_depthOf_0 0 rfl rfl)
theorem dX4_depthOf_1 : decode cX4_depthOf 1 = .ok (.iconst (-1), 1) := dk_2 (dk_at dksX4_depthOf_0 1 rfl rfl)
theorem dX4_depthOf_2 : decode cX4_depthOf 2 = .ok (.if_icmp .ne 7, 3) := dk_160 0 7 (dk_at dksX4_depthOf_0 2 rfl rfl)
theorem dX4_depthOf_5 : decode cX4_depthOf 5 = .ok (.iconst 0, 1) := dk_3 (dk_at dksX4_depthOf_0 5 rfl rfl)
theorem dX4_depthOf_6 : decode cX4_depthOf 6 = .ok (.goto 13, 3) := dk_167 0 13 (dk_at dksX4_depthOf_0 6 rfl rfl)
theorem dX4_depthOf_9 : decode cX4_depthOf 9 = .ok (.aload_n 0, 1) := dk_42 (dk_at dksX4_depthOf_0 9 rfl rfl)
theorem dX4_depthOf_10 : decode cX4_depthOf 10 = .ok (.getfield 58, 3) := dk_180 0 58 (dk_at dksX4_depthOf_0 10 rfl rfl)
theorem dX4_depthOf_13 : decode cX4_depthOf 13 = .ok (.aload_n 0, 1) := dk_42 (dk_at dksX4_depthOf_0 13 rfl rfl)
theorem dX4_depthOf_14 : decode cX4_depthOf 14 = .ok (.iload_n 1, 1) := dk_27 (dk_at dksX4_depthOf_0 14 rfl rfl)
theorem dX4_depthOf_15 : decode cX4_depthOf 15 = .ok (.invokevirtual 128, 3) := dk_182 0 128 (dk_at dksX4_depthOf_0 15 rfl rfl)
theorem dX4_depthOf_18 : decode cX4_depthOf 18 = .ok (.iaload, 1) := dk_46 (dk_at dksX4_depthOf_0 18 rfl rfl)
theorem dX4_depthOf_19 : decode cX4_depthOf 19 = .ok (.ireturn, 1) := dk_172 (dk_at dksX4_depthOf_0 19 rfl rfl)
abbrev cX4_trust : ByteArray := prog_14_method_54_code
def yX4_trust : MethodName := ⟨RX4, "trust", "(I)F"⟩
def dkwX4_trust_1 : List UInt8 := [158, 0, 7, 11, 167, 0, 8, 42, 28, 182, 0, 190, 174]
abbrev dktX4_trust_1 : List UInt8 := dkwX4_trust_1 ++ []
def dkwX4_trust_0 : List UInt8 := [42, 27, 182, 0, 128, 61, 42, 28, 2, 160, 0, 7, 4, 167, 0, 4, 3, 181, 0, 84, 42, 180, 0, 84]
abbrev dktX4_trust_0 : List UInt8 := dkwX4_trust_0 ++ dktX4_trust_1
theorem dksX4_trust_0 : cX4_trust.data.toList.drop 0 = dktX4_trust_0 := by decide +kernel
theorem dksX4_trust_1 : cX4_trust.data.toList.drop 24 = dktX4_trust_1 := dk_seg dksX4_trust_0 24 rfl rfl
theorem dX4_trust_0 : decode cX4_trust 0 = .ok (.aload_n 0, 1) := dk_42 (dk_at dksX4_trust_0 0 rfl rfl)
theorem dX4_trust_1 : decode cX4_trust 1 = .ok (.iload_n 1, 1) := dk_27 (dk_at dksX4_trust_0 1 rfl rfl)
theorem dX4_trust_2 : decode cX4_trust 2 = .ok (.invokevirtual 128, 3) := dk_182 0 128 (dk_at dksX4_trust_0 2 rfl rfl)
theorem dX4_trust_5 : decode cX4_trust 5 = .ok (.istore_n 2, 1) := dk_61 (dk_at dksX4_trust_0 5 rfl rfl)
theorem dX4_trust_6 : decode cX4_trust 6 = .ok (.aload_n 0, 1) := dk_42 (dk_at dksX4_trust_0 6 rfl rfl)
theorem dX4_trust_7 : decode cX4_trust 7 = .ok (.iload_n 2, 1) := dk_28 (dk_at dksX4_trust_0 7 rfl rfl)
theorem dX4_trust_8 : decode cX4_trust 8 = .ok (.iconst (-1), 1) := dk_2 (dk_at dksX4_trust_0 8 rfl rfl)
theorem dX4_trust_9 : decode cX4_trust 9 = .ok (.if_icmp .ne 7, 3) := dk_160 0 7 (dk_at dksX4_trust_0 9 rfl rfl)
theorem dX4_trust_12 : decode cX4_trust 12 = .ok (.iconst 1, 1) := dk_4 (dk_at dksX4_trust_0 12 rfl rfl)
theorem dX4_trust_13 : decode cX4_trust 13 = .ok (.goto 4, 3) := dk_167 0 4 (dk_at dksX4_trust_0 13 rfl rfl)
theorem dX4_trust_16 : decode cX4_trust 16 = .ok (.iconst 0, 1) := dk_3 (dk_at dksX4_trust_0 16 rfl rfl)
theorem dX4_trust_17 : decode cX4_trust 17 = .ok (.putfield 84, 3) := dk_181 0 84 (dk_at dksX4_trust_0 17 rfl rfl)
theorem dX4_trust_20 : decode cX4_trust 20 = .ok (.aload_n 0, 1) := dk_42 (dk_at dksX4_trust_0 20 rfl rfl)
theorem dX4_trust_21 : decode cX4_trust 21 = .ok (.getfield 84, 3) := dk_180 0 84 (dk_at dksX4_trust_0 21 rfl rfl)
theorem dX4_trust_24 : decode cX4_trust 24 = .ok (.ifCond .le 7, 3) := dk_158 0 7 (dk_at dksX4_trust_1 0 rfl rfl)
theorem dX4_trust_27 : decode cX4_trust 27 = .ok (.fconst 0, 1) := dk_11 (dk_at dksX4_trust_1 3 rfl rfl)
theorem dX4_trust_28 : decode cX4_trust 28 = .ok (.goto 8, 3) := dk_167 0 8 (dk_at dksX4_trust_1 4 rfl rfl)
theorem dX4_trust_31 : decode cX4_trust 31 = .ok (.aload_n 0, 1) := dk_42 (dk_at dksX4_trust_1 7 rfl rfl)
theorem dX4_trust_32 : decode cX4_trust 32 = .ok (.iload_n 2, 1) := dk_28 (dk_at dksX4_trust_1 8 rfl rfl)
theorem dX4_trust_33 : decode cX4_trust 33 = .ok (.invokevirtual 190, 3) := dk_182 0 190 (dk_at dksX4_trust_1 9 rfl rfl)
theorem dX4_trust_36 : decode cX4_trust 36 = .ok (.freturn, 1) := dk_174 (dk_at dksX4_trust_1 12 rfl rfl)
abbrev cX4_trustIn : ByteArray := prog_14_method_13_code
def yX4_trustIn : MethodName := ⟨RX4, "trustIn", "(I)F"⟩
def dkwX4_trustIn_0 : List UInt8 := [42, 180, 0, 7, 17, 0, 195, 27, 96, 46, 184, 0, 116, 174]
abbrev dktX4_trustIn_0 : List UInt8 := dkwX4_trustIn_0 ++ []
theorem dksX4_trustIn_0 : cX4_trustIn.data.toList.drop 0 = dktX4_trustIn_0 := by decide +kernel
theorem dX4_trustIn_0 : decode cX4_trustIn 0 = .ok (.aload_n 0, 1) := dk_42 (dk_at dksX4_trustIn_0 0 rfl rfl)
theorem dX4_trustIn_1 : decode cX4_trustIn 1 = .ok (.getfield 7, 3) := dk_180 0 7 (dk_at dksX4_trustIn_0 1 rfl rfl)
theorem dX4_trustIn_4 : decode cX4_trustIn 4 = .ok (.sipush 195, 3) := dk_17 0 195 (dk_at dksX4_trustIn_0 4 rfl rfl)
theorem dX4_trustIn_7 : decode cX4_trustIn 7 = .ok (.iload_n 1, 1) := dk_27 (dk_at dksX4_trustIn_0 7 rfl rfl)
theorem dX4_trustIn_8 : decode cX4_trustIn 8 = .ok (.iadd, 1) := dk_96 (dk_at dksX4_trustIn_0 8 rfl rfl)
theorem dX4_trustIn_9 : decode cX4_trustIn 9 = .ok (.iaload, 1) := dk_46 (dk_at dksX4_trustIn_0 9 rfl rfl)
theorem dX4_trustIn_10 : decode cX4_trustIn 10 = .ok (.invokestatic 116, 3) := dk_184 0 116 (dk_at dksX4_trustIn_0 10 rfl rfl)
theorem dX4_trustIn_13 : decode cX4_trustIn 13 = .ok (.freturn, 1) := dk_174 (dk_at dksX4_trustIn_0 13 rfl rfl)
abbrev cX4_trustBits : ByteArray := prog_14_method_55_code
def yX4_trustBits : MethodName := ⟨RX4, "trustBits", "(I)I"⟩
def dkwX4_trustBits_1 : List UInt8 := [42, 180, 0, 7, 17, 0, 195, 28, 96, 46, 172]
abbrev dktX4_trustBits_1 : List UInt8 := dkwX4_trustBits_1 ++ []
def dkwX4_trustBits_0 : List UInt8 := [42, 3, 181, 0, 84, 42, 27, 182, 0, 128, 61, 28, 2, 160, 0, 11, 42, 4, 182, 0, 101, 167, 0, 13]
abbrev dktX4_trustBits_0 : List UInt8 := dkwX4_trustBits_0 ++ dktX4_trustBits_1
theorem dksX4_trustBits_0 : cX4_trustBits.data.toList.drop 0 = dktX4_trustBits_0 := by decide +kernel
theorem dksX4_trustBits_1 : cX4_trustBits.data.toList.drop 24 = dktX4_trustBits_1 := dk_seg dksX4_trustBits_0 24 rfl rfl
theorem dX4_trustBits_0 : decode cX4_trustBits 0 = .ok (.aload_n 0, 1) := dk_42 (dk_at dksX4_trustBits_0 0 rfl rfl)
theorem dX4_trustBits_1 : decode cX4_trustBits 1 = .ok (.iconst 0, 1) := dk_3 (dk_at dksX4_trustBits_0 1 rfl rfl)
theorem dX4_trustBits_2 : decode cX4_trustBits 2 = .ok (.putfield 84, 3) := dk_181 0 84 (dk_at dksX4_trustBits_0 2 rfl rfl)
theorem dX4_trustBits_5 : decode cX4_trustBits 5 = .ok (.aload_n 0, 1) := dk_42 (dk_at dksX4_trustBits_0 5 rfl rfl)
theorem dX4_trustBits_6 : decode cX4_trustBits 6 = .ok (.iload_n 1, 1) := dk_27 (dk_at dksX4_trustBits_0 6 rfl rfl)
theorem dX4_trustBits_7 : decode cX4_trustBits 7 = .ok (.invokevirtual 128, 3) := dk_182 0 128 (dk_at dksX4_trustBits_0 7 rfl rfl)
theorem dX4_trustBits_10 : decode cX4_trustBits 10 = .ok (.istore_n 2, 1) := dk_61 (dk_at dksX4_trustBits_0 10 rfl rfl)
theorem dX4_trustBits_11 : decode cX4_trustBits 11 = .ok (.iload_n 2, 1) := dk_28 (dk_at dksX4_trustBits_0 11 rfl rfl)
theorem dX4_trustBits_12 : decode cX4_trustBits 12 = .ok (.iconst (-1), 1) := dk_2 (dk_at dksX4_trustBits_0 12 rfl rfl)
theorem dX4_trustBits_13 : decode cX4_trustBits 13 = .ok (.if_icmp .ne 11, 3) := dk_160 0 11 (dk_at dksX4_trustBits_0 13 rfl rfl)
theorem dX4_trustBits_16 : decode cX4_trustBits 16 = .ok (.aload_n 0, 1) := dk_42 (dk_at dksX4_trustBits_0 16 rfl rfl)
theorem dX4_trustBits_17 : decode cX4_trustBits 17 = .ok (.iconst 1, 1) := dk_4 (dk_at dksX4_trustBits_0 17 rfl rfl)
theorem dX4_trustBits_18 : decode cX4_trustBits 18 = .ok (.invokevirtual 101, 3) := dk_182 0 101 (dk_at dksX4_trustBits_0 18 rfl rfl)
theorem dX4_trustBits_21 : decode cX4_trustBits 21 = .ok (.goto 13, 3) := dk_167 0 13 (dk_at dksX4_trustBits_0 21 rfl rfl)
theorem dX4_trustBits_24 : decode cX4_trustBits 24 = .ok (.aload_n 0, 1) := dk_42 (dk_at dksX4_trustBits_1 0 rfl rfl)
theorem dX4_trustBits_25 : decode cX4_trustBits 25 = .ok (.getfield 7, 3) := dk_180 0 7 (dk_at dksX4_trustBits_1 1 rfl rfl)
theorem dX4_trustBits_28 : decode cX4_trustBits 28 = .ok (.sipush 195, 3) := dk_17 0 195 (dk_at dksX4_trustBits_1 4 rfl rfl)
theorem dX4_trustBits_31 : decode cX4_trustBits 31 = .ok (.iload_n 2, 1) := dk_28 (dk_at dksX4_trustBits_1 7 rfl rfl)
theorem dX4_trustBits_32 : decode cX4_trustBits 32 = .ok (.iadd, 1) := dk_96 (dk_at dksX4_trustBits_1 8 rfl rfl)
theorem dX4_trustBits_33 : decode cX4_trustBits 33 = .ok (.iaload, 1) := dk_46 (dk_at dksX4_trustBits_1 9 rfl rfl)
theorem dX4_trustBits_34 : decode cX4_trustBits 34 = .ok (.ireturn, 1) := dk_172 (dk_at dksX4_trustBits_1 10 rfl rfl)
abbrev cX4_trusted : ByteArray := prog_14_method_56_code
def yX4_trusted : MethodName := ⟨RX4, "trusted", "(I)I"⟩
def dkwX4_trusted_4 : List UInt8 := [28, 96, 46, 172, 132, 2, 1, 167, 255, 162, 42, 4, 182, 0, 101, 172]
abbrev dktX4_trusted_4 : List UInt8 := dkwX4_trusted_4 ++ []
def dkwX4_trusted_3 : List UInt8 := [4, 167, 0, 4, 3, 96, 62, 132, 4, 1, 167, 255, 198, 29, 27, 160, 0, 13, 42, 180, 0, 7, 16, 95]
abbrev dktX4_trusted_3 : List UInt8 := dkwX4_trusted_3 ++ dktX4_trusted_4
def dkwX4_trusted_2 : List UInt8 := [157, 0, 24, 42, 21, 4, 182, 0, 190, 42, 28, 182, 0, 190, 149, 154, 0, 13, 21, 4, 28, 162, 0, 7]
abbrev dktX4_trusted_2 : List UInt8 := dkwX4_trusted_2 ++ dktX4_trusted_3
def dkwX4_trusted_1 : List UInt8 := [42, 180, 0, 7, 4, 46, 162, 0, 53, 29, 42, 21, 4, 182, 0, 190, 42, 28, 182, 0, 190, 149]
abbrev dktX4_trusted_1 : List UInt8 := dkwX4_trusted_1 ++ dktX4_trusted_2
def dkwX4_trusted_0 : List UInt8 := [42, 3, 181, 0, 84, 3, 61, 28, 42, 180, 0, 7, 4, 46, 162, 0, 90, 3, 62, 3, 54, 4, 21, 4]
abbrev dktX4_trusted_0 : List UInt8 := dkwX4_trusted_0 ++ dktX4_trusted_1
theorem dksX4_trusted_0 : cX4_trusted.data.toList.drop 0 = dktX4_trusted_0 := by decide +kernel
theorem dksX4_trusted_1 : cX4_trusted.data.toList.drop 24 = dktX4_trusted_1 := dk_seg dksX4_trusted_0 24 rfl rfl
theorem dksX4_trusted_2 : cX4_trusted.data.toList.drop 46 = dktX4_trusted_2 := dk_seg dksX4_trusted_1 22 rfl rfl
theorem dksX4_trusted_3 : cX4_trusted.data.toList.drop 70 = dktX4_trusted_3 := dk_seg dksX4_trusted_2 24 rfl rfl
theorem dksX4_trusted_4 : cX4_trusted.data.toList.drop 94 = dktX4_trusted_4 := dk_seg dksX4_trusted_3 24 rfl rfl
theorem dX4_trusted_0 : decode cX4_trusted 0 = .ok (.aload_n 0, 1) := dk_42 (dk_at dksX4_trusted_0 0 rfl rfl)
theorem dX4_trusted_1 : decode cX4_trusted 1 = .ok (.iconst 0, 1) := dk_3 (dk_at dksX4_trusted_0 1 rfl rfl)
theorem dX4_trusted_2 : decode cX4_trusted 2 = .ok (.putfield 84, 3) := dk_181 0 84 (dk_at dksX4_trusted_0 2 rfl rfl)
theorem dX4_trusted_5 : decode cX4_trusted 5 = .ok (.iconst 0, 1) := dk_3 (dk_at dksX4_trusted_0 5 rfl rfl)
theorem dX4_trusted_6 : decode cX4_trusted 6 = .ok (.istore_n 2, 1) := dk_61 (dk_at dksX4_trusted_0 6 rfl rfl)
theorem dX4_trusted_7 : decode cX4_trusted 7 = .ok (.iload_n 2, 1) := dk_28 (dk_at dksX4_trusted_0 7 rfl rfl)
theorem dX4_trusted_8 : decode cX4_trusted 8 = .ok (.aload_n 0, 1) := dk_42 (dk_at dksX4_trusted_0 8 rfl rfl)
theorem dX4_trusted_9 : decode cX4_trusted 9 = .ok (.getfield 7, 3) := dk_180 0 7 (dk_at dksX4_trusted_0 9 rfl rfl)
theorem dX4_trusted_12 : decode cX4_trusted 12 = .ok (.iconst 1, 1) := dk_4 (dk_at dksX4_trusted_0 12 rfl rfl)
theorem dX4_trusted_13 : decode cX4_trusted 13 = .ok (.iaload, 1) := dk_46 (dk_at dksX4_trusted_0 13 rfl rfl)
theorem dX4_trusted_14 : decode cX4_trusted 14 = .ok (.if_icmp .ge 90, 3) := dk_162 0 90 (dk_at dksX4_trusted_0 14 rfl rfl)
theorem dX4_trusted_17 : decode cX4_trusted 17 = .ok (.iconst 0, 1) := dk_3 (dk_at dksX4_trusted_0 17 rfl rfl)
theorem dX4_trusted_18 : decode cX4_trusted 18 = .ok (.istore_n 3, 1) := dk_62 (dk_at dksX4_trusted_0 18 rfl rfl)
theorem dX4_trusted_19 : decode cX4_trusted 19 = .ok (.iconst 0, 1) := dk_3 (dk_at dksX4_trusted_0 19 rfl rfl)
theorem dX4_trusted_20 : decode cX4_trusted 20 = .ok (.istore 4, 2) := dk_54 4 (dk_at dksX4_trusted_0 20 rfl rfl)
theorem dX4_trusted_22 : decode cX4_trusted 22 = .ok (.iload 4, 2) := dk_21 4 (dk_at dksX4_trusted_0 22 rfl rfl)
theorem dX4_trusted_24 : decode cX4_trusted 24 = .ok (.aload_n 0, 1) := dk_42 (dk_at dksX4_trusted_1 0 rfl rfl)
theorem dX4_trusted_25 : decode cX4_trusted 25 = .ok (.getfield 7, 3) := dk_180 0 7 (dk_at dksX4_trusted_1 1 rfl rfl)
theorem dX4_trusted_28 : decode cX4_trusted 28 = .ok (.iconst 1, 1) := dk_4 (dk_at dksX4_trusted_1 4 rfl rfl)
theorem dX4_trusted_29 : decode cX4_trusted 29 = .ok (.iaload, 1) := dk_46 (dk_at dksX4_trusted_1 5 rfl rfl)
theorem dX4_trusted_30 : decode cX4_trusted 30 = .ok (.if_icmp .ge 53, 3) := dk_162 0 53 (dk_at dksX4_trusted_1 6 rfl rfl)
theorem dX4_trusted_33 : decode cX4_trusted 33 = .ok (.iload_n 3, 1) := dk_29 (dk_at dksX4_trusted_1 9 rfl rfl)
theorem dX4_trusted_34 : decode cX4_trusted 34 = .ok (.aload_n 0, 1) := dk_42 (dk_at dksX4_trusted_1 10 rfl rfl)
theorem dX4_trusted_35 : decode cX4_trusted 35 = .ok (.iload 4, 2) := dk_21 4 (dk_at dksX4_trusted_1 11 rfl rfl)
theorem dX4_trusted_37 : decode cX4_trusted 37 = .ok (.invokevirtual 190, 3) := dk_182 0 190 (dk_at dksX4_trusted_1 13 rfl rfl)
theorem dX4_trusted_40 : decode cX4_trusted 40 = .ok (.aload_n 0, 1) := dk_42 (dk_at dksX4_trusted_1 16 rfl rfl)
theorem dX4_trusted_41 : decode cX4_trusted 41 = .ok (.iload_n 2, 1) := dk_28 (dk_at dksX4_trusted_1 17 rfl rfl)
theorem dX4_trusted_42 : decode cX4_trusted 42 = .ok (.invokevirtual 190, 3) := dk_182 0 190 (dk_at dksX4_trusted_1 18 rfl rfl)
theorem dX4_trusted_45 : decode cX4_trusted 45 = .ok (.fcmp .l, 1) := dk_149 (dk_at dksX4_trusted_1 21 rfl rfl)
theorem dX4_trusted_46 : decode cX4_trusted 46 = .ok (.ifCond .gt 24, 3) := dk_157 0 24 (dk_at dksX4_trusted_2 0 rfl rfl)
theorem dX4_trusted_49 : decode cX4_trusted 49 = .ok (.aload_n 0, 1) := dk_42 (dk_at dksX4_trusted_2 3 rfl rfl)
theorem dX4_trusted_50 : decode cX4_trusted 50 = .ok (.iload 4, 2) := dk_21 4 (dk_at dksX4_trusted_2 4 rfl rfl)
theorem dX4_trusted_52 : decode cX4_trusted 52 = .ok (.invokevirtual 190, 3) := dk_182 0 190 (dk_at dksX4_trusted_2 6 rfl rfl)
theorem dX4_trusted_55 : decode cX4_trusted 55 = .ok (.aload_n 0, 1) := dk_42 (dk_at dksX4_trusted_2 9 rfl rfl)
theorem dX4_trusted_56 : decode cX4_trusted 56 = .ok (.iload_n 2, 1) := dk_28 (dk_at dksX4_trusted_2 10 rfl rfl)
theorem dX4_trusted_57 : decode cX4_trusted 57 = .ok (.invokevirtual 190, 3) := dk_182 0 190 (dk_at dksX4_trusted_2 11 rfl rfl)
theorem dX4_trusted_60 : decode cX4_trusted 60 = .ok (.fcmp .l, 1) := dk_149 (dk_at dksX4_trusted_2 14 rfl rfl)
theorem dX4_trusted_61 : decode cX4_trusted 61 = .ok (.ifCond .ne 13, 3) := dk_154 0 13 (dk_at dksX4_trusted_2 15 rfl rfl)
theorem dX4_trusted_64 : decode cX4_trusted 64 = .ok (.iload 4, 2) := dk_21 4 (dk_at dksX4_trusted_2 18 rfl rfl)
theorem dX4_trusted_66 : decode cX4_trusted 66 = .ok (.iload_n 2, 1) := dk_28 (dk_at dksX4_trusted_2 20 rfl rfl)
theorem dX4_trusted_67 : decode cX4_trusted 67 = .ok (.if_icmp .ge 7, 3) := dk_162 0 7 (dk_at dksX4_trusted_2 21 rfl rfl)
theorem dX4_trusted_70 : decode cX4_trusted 70 = .ok (.iconst 1, 1) := dk_4 (dk_at dksX4_trusted_3 0 rfl rfl)
theorem dX4_trusted_71 : decode cX4_trusted 71 = .ok (.goto 4, 3) := dk_167 0 4 (dk_at dksX4_trusted_3 1 rfl rfl)
theorem dX4_trusted_74 : decode cX4_trusted 74 = .ok (.iconst 0, 1) := dk_3 (dk_at dksX4_trusted_3 4 rfl rfl)
theorem dX4_trusted_75 : decode cX4_trusted 75 = .ok (.iadd, 1) := dk_96 (dk_at dksX4_trusted_3 5 rfl rfl)
theorem dX4_trusted_76 : decode cX4_trusted 76 = .ok (.istore_n 3, 1) := dk_62 (dk_at dksX4_trusted_3 6 rfl rfl)
theorem dX4_trusted_77 : decode cX4_trusted 77 = .ok (.iinc 4 1, 3) := dk_132 4 1 (dk_at dksX4_trusted_3 7 rfl rfl)
theorem dX4_trusted_80 : decode cX4_trusted 80 = .ok (.goto (-58), 3) := dk_167 255 198 (dk_at dksX4_trusted_3 10 rfl rfl)
theorem dX4_trusted_83 : decode cX4_trusted 83 = .ok (.iload_n 3, 1) := dk_29 (dk_at dksX4_trusted_3 13 rfl rfl)
theorem dX4_trusted_84 : decode cX4_trusted 84 = .ok (.iload_n 1, 1) := dk_27 (dk_at dksX4_trusted_3 14 rfl rfl)
theorem dX4_trusted_85 : decode cX4_trusted 85 = .ok (.if_icmp .ne 13, 3) := dk_160 0 13 (dk_at dksX4_trusted_3 15 rfl rfl)
theorem dX4_trusted_88 : decode cX4_trusted 88 = .ok (.aload_n 0, 1) := dk_42 (dk_at dksX4_trusted_3 18 rfl rfl)
theorem dX4_trusted_89 : decode cX4_trusted 89 = .ok (.getfield 7, 3) := dk_180 0 7 (dk_at dksX4_trusted_3 19 rfl rfl)
theorem dX4_trusted_92 : decode cX4_trusted 92 = .ok (.bipush 95, 2) := dk_16 95 (dk_at dksX4_trusted_3 22 rfl rfl)
theorem dX4_trusted_94 : decode cX4_trusted 94 = .ok (.iload_n 2, 1) := dk_28 (dk_at dksX4_trusted_4 0 rfl rfl)
theorem dX4_trusted_95 : decode cX4_trusted 95 = .ok (.iadd, 1) := dk_96 (dk_at dksX4_trusted_4 1 rfl rfl)
theorem dX4_trusted_96 : decode cX4_trusted 96 = .ok (.iaload, 1) := dk_46 (dk_at dksX4_trusted_4 2 rfl rfl)
theorem dX4_trusted_97 : decode cX4_trusted 97 = .ok (.ireturn, 1) := dk_172 (dk_at dksX4_trusted_4 3 rfl rfl)
theorem dX4_trusted_98 : decode cX4_trusted 98 = .ok (.iinc 2 1, 3) := dk_132 2 1 (dk_at dksX4_trusted_4 4 rfl rfl)
theorem dX4_trusted_101 : decode cX4_trusted 101 = .ok (.goto (-94), 3) := dk_167 255 162 (dk_at dksX4_trusted_4 7 rfl rfl)
theorem dX4_trusted_104 : decode cX4_trusted 104 = .ok (.aload_n 0, 1) := dk_42 (dk_at dksX4_trusted_4 10 rfl rfl)
theorem dX4_trusted_105 : decode cX4_trusted 105 = .ok (.iconst 1, 1) := dk_4 (dk_at dksX4_trusted_4 11 rfl rfl)
theorem dX4_trusted_106 : decode cX4_trusted 106 = .ok (.invokevirtual 101, 3) := dk_182 0 101 (dk_at dksX4_trusted_4 12 rfl rfl)
theorem dX4_trusted_109 : decode cX4_trusted 109 = .ok (.ireturn, 1) := dk_172 (dk_at dksX4_trusted_4 15 rfl rfl)
abbrev cX4_due : ByteArray := prog_14_method_57_code
def yX4_due : MethodName := ⟨RX4, "due", "(Z)I"⟩
def dkwX4_due_0 : List UInt8 := [42, 3, 181, 0, 84, 42, 182, 0, 197, 42, 180, 0, 178, 172]
abbrev dktX4_due_0 : List UInt8 := dkwX4_due_0 ++ []
theorem dksX4_due_0 : cX4_due.data.toList.drop 0 = dktX4_due_0 := by decide +kernel
theorem dX4_due_0 : decode cX4_due 0 = .ok (.aload_n 0, 1) := dk_42 (dk_at dksX4_due_0 0 rfl rfl)
theorem dX4_due_1 : decode cX4_due 1 = .ok (.iconst 0, 1) := dk_3 (dk_at dksX4_due_0 1 rfl rfl)
theorem dX4_due_2 : decode cX4_due 2 = .ok (.putfield 84, 3) := dk_181 0 84 (dk_at dksX4_due_0 2 rfl rfl)
theorem dX4_due_5 : decode cX4_due 5 = .ok (.aload_n 0, 1) := dk_42 (dk_at dksX4_due_0 5 rfl rfl)
theorem dX4_due_6 : decode cX4_due 6 = .ok (.invokevirtual 197, 3) := dk_182 0 197 (dk_at dksX4_due_0 6 rfl rfl)
theorem dX4_due_9 : decode cX4_due 9 = .ok (.aload_n 0, 1) := dk_42 (dk_at dksX4_due_0 9 rfl rfl)
theorem dX4_due_10 : decode cX4_due 10 = .ok (.getfield 178, 3) := dk_180 0 178 (dk_at dksX4_due_0 10 rfl rfl)
theorem dX4_due_13 : decode cX4_due 13 = .ok (.ireturn, 1) := dk_172 (dk_at dksX4_due_0 13 rfl rfl)
abbrev cX4_looks : ByteArray := prog_14_method_32_code
def yX4_looks : MethodName := ⟨RX4, "looks", "()V"⟩
def dkwX4_looks_5 : List UInt8 := [167, 255, 176, 132, 2, 1, 167, 255, 158, 132, 1, 1, 167, 255, 140, 177]
abbrev dktX4_looks_5 : List UInt8 := dkwX4_looks_5 ++ []
def dkwX4_looks_4 : List UInt8 := [180, 0, 55, 42, 180, 0, 178, 29, 79, 42, 89, 180, 0, 178, 4, 96, 181, 0, 178, 132, 3, 1]
abbrev dktX4_looks_4 : List UInt8 := dkwX4_looks_4 ++ dktX4_looks_5
def dkwX4_looks_3 : List UInt8 := [167, 0, 43, 42, 180, 0, 49, 42, 180, 0, 178, 27, 79, 42, 180, 0, 52, 42, 180, 0, 178, 28, 79, 42]
abbrev dktX4_looks_3 : List UInt8 := dkwX4_looks_3 ++ dktX4_looks_4
def dkwX4_looks_2 : List UInt8 := [180, 0, 42, 27, 28, 29, 184, 0, 169, 51, 154, 0, 56, 42, 27, 28, 29, 182, 0, 172, 154, 0, 6]
abbrev dktX4_looks_2 : List UInt8 := dkwX4_looks_2 ++ dktX4_looks_3
def dkwX4_looks_1 : List UInt8 := [42, 180, 0, 7, 4, 46, 162, 0, 94, 2, 62, 29, 42, 180, 0, 7, 4, 46, 162, 0, 76, 42]
abbrev dktX4_looks_1 : List UInt8 := dkwX4_looks_1 ++ dktX4_looks_2
def dkwX4_looks_0 : List UInt8 := [42, 182, 0, 175, 42, 3, 181, 0, 178, 3, 60, 27, 42, 180, 0, 7, 3, 46, 162, 0, 112, 3, 61, 28]
abbrev dktX4_looks_0 : List UInt8 := dkwX4_looks_0 ++ dktX4_looks_1
theorem dksX4_looks_0 : cX4_looks.data.toList.drop 0 = dktX4_looks_0 := by decide +kernel
theorem dksX4_looks_1 : cX4_looks.data.toList.drop 24 = dktX4_looks_1 := dk_seg dksX4_looks_0 24 rfl rfl
theorem dksX4_looks_2 : cX4_looks.data.toList.drop 46 = dktX4_looks_2 := dk_seg dksX4_looks_1 22 rfl rfl
theorem dksX4_looks_3 : cX4_looks.data.toList.drop 69 = dktX4_looks_3 := dk_seg dksX4_looks_2 23 rfl rfl
theorem dksX4_looks_4 : cX4_looks.data.toList.drop 93 = dktX4_looks_4 := dk_seg dksX4_looks_3 24 rfl rfl
theorem dksX4_looks_5 : cX4_looks.data.toList.drop 115 = dktX4_looks_5 := dk_seg dksX4_looks_4 22 rfl rfl
theorem dX4_looks_0 : decode cX4_looks 0 = .ok (.aload_n 0, 1) := dk_42 (dk_at dksX4_looks_0 0 rfl rfl)
theorem dX4_looks_1 : decode cX4_looks 1 = .ok (.invokevirtual 175, 3) := dk_182 0 175 (dk_at dksX4_looks_0 1 rfl rfl)
theorem dX4_looks_4 : decode cX4_looks 4 = .ok (.aload_n 0, 1) := dk_42 (dk_at dksX4_looks_0 4 rfl rfl)
theorem dX4_looks_5 : decode cX4_looks 5 = .ok (.iconst 0, 1) := dk_3 (dk_at dksX4_looks_0 5 rfl rfl)
theorem dX4_looks_6 : decode cX4_looks 6 = .ok (.putfield 178, 3) := dk_181 0 178 (dk_at dksX4_looks_0 6 rfl rfl)
theorem dX4_looks_9 : decode cX4_looks 9 = .ok (.iconst 0, 1) := dk_3 (dk_at dksX4_looks_0 9 rfl rfl)
theorem dX4_looks_10 : decode cX4_looks 10 = .ok (.istore_n 1, 1) := dk_60 (dk_at dksX4_looks_0 10 rfl rfl)
theorem dX4_looks_11 : decode cX4_looks 11 = .ok (.iload_n 1, 1) := dk_27 (dk_at dksX4_looks_0 11 rfl rfl)
theorem dX4_looks_12 : decode cX4_looks 12 = .ok (.aload_n 0, 1) := dk_42 (dk_at dksX4_looks_0 12 rfl rfl)
theorem dX4_looks_13 : decode cX4_looks 13 = .ok (.getfield 7, 3) := dk_180 0 7 (dk_at dksX4_looks_0 13 rfl rfl)
theorem dX4_looks_16 : decode cX4_looks 16 = .ok (.iconst 0, 1) := dk_3 (dk_at dksX4_looks_0 16 rfl rfl)
theorem dX4_looks_17 : decode cX4_looks 17 = .ok (.iaload, 1) := dk_46 (dk_at dksX4_looks_0 17 rfl rfl)
theorem dX4_looks_18 : decode cX4_looks 18 = .ok (.if_icmp .ge 112, 3) := dk_162 0 112 (dk_at dksX4_looks_0 18 rfl rfl)
theorem dX4_looks_21 : decode cX4_looks 21 = .ok (.iconst 0, 1) := dk_3 (dk_at dksX4_looks_0 21 rfl rfl)
theorem dX4_looks_22 : decode cX4_looks 22 = .ok (.istore_n 2, 1) := dk_61 (dk_at dksX4_looks_0 22 rfl rfl)
theorem dX4_looks_23 : decode cX4_looks 23 = .ok (.iload_n 2, 1) := dk_28 (dk_at dksX4_looks_0 23 rfl rfl)
theorem dX4_looks_24 : decode cX4_looks 24 = .ok (.aload_n 0, 1) := dk_42 (dk_at dksX4_looks_1 0 rfl rfl)
theorem dX4_looks_25 : decode cX4_looks 25 = .ok (.getfield 7, 3) := dk_180 0 7 (dk_at dksX4_looks_1 1 rfl rfl)
theorem dX4_looks_28 : decode cX4_looks 28 = .ok (.iconst 1, 1) := dk_4 (dk_at dksX4_looks_1 4 rfl rfl)
theorem dX4_looks_29 : decode cX4_looks 29 = .ok (.iaload, 1) := dk_46 (dk_at dksX4_looks_1 5 rfl rfl)
theorem dX4_looks_30 : decode cX4_looks 30 = .ok (.if_icmp .ge 94, 3) := dk_162 0 94 (dk_at dksX4_looks_1 6 rfl rfl)
theorem dX4_looks_33 : decode cX4_looks 33 = .ok (.iconst (-1), 1) := dk_2 (dk_at dksX4_looks_1 9 rfl rfl)
theorem dX4_looks_34 : decode cX4_looks 34 = .ok (.istore_n 3, 1) := dk_62 (dk_at dksX4_looks_1 10 rfl rfl)
theorem dX4_looks_35 : decode cX4_looks 35 = .ok (.iload_n 3, 1) := dk_29 (dk_at dksX4_looks_1 11 rfl rfl)
theorem dX4_looks_36 : decode cX4_looks 36 = .ok (.aload_n 0, 1) := dk_42 (dk_at dksX4_looks_1 12 rfl rfl)
theorem dX4_looks_37 : decode cX4_looks 37 = .ok (.getfield 7, 3) := dk_180 0 7 (dk_at dksX4_looks_1 13 rfl rfl)
theorem dX4_looks_40 : decode cX4_looks 40 = .ok (.iconst 1, 1) := dk_4 (dk_at dksX4_looks_1 16 rfl rfl)
theorem dX4_looks_41 : decode cX4_looks 41 = .ok (.iaload, 1) := dk_46 (dk_at dksX4_looks_1 17 rfl rfl)
theorem dX4_looks_42 : decode cX4_looks 42 = .ok (.if_icmp .ge 76, 3) := dk_162 0 76 (dk_at dksX4_looks_1 18 rfl rfl)
theorem dX4_looks_45 : decode cX4_looks 45 = .ok (.aload_n 0, 1) := dk_42 (dk_at dksX4_looks_1 21 rfl rfl)
theorem dX4_looks_46 : decode cX4_looks 46 = .ok (.getfield 42, 3) := dk_180 0 42 (dk_at dksX4_looks_2 0 rfl rfl)
theorem dX4_looks_49 : decode cX4_looks 49 = .ok (.iload_n 1, 1) := dk_27 (dk_at dksX4_looks_2 3 rfl rfl)
theorem dX4_looks_50 : decode cX4_looks 50 = .ok (.iload_n 2, 1) := dk_28 (dk_at dksX4_looks_2 4 rfl rfl)
theorem dX4_looks_51 : decode cX4_looks 51 = .ok (.iload_n 3, 1) := dk_29 (dk_at dksX4_looks_2 5 rfl rfl)
theorem dX4_looks_52 : decode cX4_looks 52 = .ok (.invokestatic 169, 3) := dk_184 0 169 (dk_at dksX4_looks_2 6 rfl rfl)
theorem dX4_looks_55 : decode cX4_looks 55 = .ok (.baload, 1) := dk_51 (dk_at dksX4_looks_2 9 rfl rfl)
theorem dX4_looks_56 : decode cX4_looks 56 = .ok (.ifCond .ne 56, 3) := dk_154 0 56 (dk_at dksX4_looks_2 10 rfl rfl)
theorem dX4_looks_59 : decode cX4_looks 59 = .ok (.aload_n 0, 1) := dk_42 (dk_at dksX4_looks_2 13 rfl rfl)
theorem dX4_looks_60 : decode cX4_looks 60 = .ok (.iload_n 1, 1) := dk_27 (dk_at dksX4_looks_2 14 rfl rfl)
theorem dX4_looks_61 : decode cX4_looks 61 = .ok (.iload_n 2, 1) := dk_28 (dk_at dksX4_looks_2 15 rfl rfl)
theorem dX4_looks_62 : decode cX4_looks 62 = .ok (.iload_n 3, 1) := dk_29 (dk_at dksX4_looks_2 16 rfl rfl)
theorem dX4_looks_63 : decode cX4_looks 63 = .ok (.invokevirtual 172, 3) := dk_182 0 172 (dk_at dksX4_looks_2 17 rfl rfl)
theorem dX4_looks_66 : decode cX4_looks 66 = .ok (.ifCond .ne 6, 3) := dk_154 0 6 (dk_at dksX4_looks_2 20 rfl rfl)
theorem dX4_looks_69 : decode cX4_looks 69 = .ok (.goto 43, 3) := dk_167 0 43 (dk_at dksX4_looks_3 0 rfl rfl)
theorem dX4_looks_72 : decode cX4_looks 72 = .ok (.aload_n 0, 1) := dk_42 (dk_at dksX4_looks_3 3 rfl rfl)
theorem dX4_looks_73 : decode cX4_looks 73 = .ok (.getfield 49, 3) := dk_180 0 49 (dk_at dksX4_looks_3 4 rfl rfl)
theorem dX4_looks_76 : decode cX4_looks 76 = .ok (.aload_n 0, 1) := dk_42 (dk_at dksX4_looks_3 7 rfl rfl)
theorem dX4_looks_77 : decode cX4_looks 77 = .ok (.getfield 178, 3) := dk_180 0 178 (dk_at dksX4_looks_3 8 rfl rfl)
theorem dX4_looks_80 : decode cX4_looks 80 = .ok (.iload_n 1, 1) := dk_27 (dk_at dksX4_looks_3 11 rfl rfl)
theorem dX4_looks_81 : decode cX4_looks 81 = .ok (.iastore, 1) := dk_79 (dk_at dksX4_looks_3 12 rfl rfl)
theorem dX4_looks_82 : decode cX4_looks 82 = .ok (.aload_n 0, 1) := dk_42 (dk_at dksX4_looks_3 13 rfl rfl)
theorem dX4_looks_83 : decode cX4_looks 83 = .ok (.getfield 52, 3) := dk_180 0 52 (dk_at dksX4_looks_3 14 rfl rfl)
theorem dX4_looks_86 : decode cX4_looks 86 = .ok (.aload_n 0, 1) := dk_42 (dk_at dksX4_looks_3 17 rfl rfl)
theorem dX4_looks_87 : decode cX4_looks 87 = .ok (.getfield 178, 3) := dk_180 0 178 (dk_at dksX4_looks_3 18 rfl rfl)
theorem dX4_looks_90 : decode cX4_looks 90 = .ok (.iload_n 2, 1) := dk_28 (dk_at dksX4_looks_3 21 rfl rfl)
theorem dX4_looks_91 : decode cX4_looks 91 = .ok (.iastore, 1) := dk_79 (dk_at dksX4_looks_3 22 rfl rfl)
theorem dX4_looks_92 : decode cX4_looks 92 = .ok (.aload_n 0, 1) := dk_42 (dk_at dksX4_looks_3 23 rfl rfl)
theorem dX4_looks_93 : decode cX4_looks 93 = .ok (.getfield 55, 3) := dk_180 0 55 (dk_at dksX4_looks_4 0 rfl rfl)
theorem dX4_looks_96 : decode cX4_looks 96 = .ok (.aload_n 0, 1) := dk_42 (dk_at dksX4_looks_4 3 rfl rfl)
theorem dX4_looks_97 : decode cX4_looks 97 = .ok (.getfield 178, 3) := dk_180 0 178 (dk_at dksX4_looks_4 4 rfl rfl)
theorem dX4_looks_100 : decode cX4_looks 100 = .ok (.iload_n 3, 1) := dk_29 (dk_at dksX4_looks_4 7 rfl rfl)
theorem dX4_looks_101 : decode cX4_looks 101 = .ok (.iastore, 1) := dk_79 (dk_at dksX4_looks_4 8 rfl rfl)
theorem dX4_looks_102 : decode cX4_looks 102 = .ok (.aload_n 0, 1) := dk_42 (dk_at dksX4_looks_4 9 rfl rfl)
theorem dX4_looks_103 : decode cX4_looks 103 = .ok (.dup, 1) := dk_89 (dk_at dksX4_looks_4 10 rfl rfl)
theorem dX4_looks_104 : decode cX4_looks 104 = .ok (.getfield 178, 3) := dk_180 0 178 (dk_at dksX4_looks_4 11 rfl rfl)
theorem dX4_looks_107 : decode cX4_looks 107 = .ok (.iconst 1, 1) := dk_4 (dk_at dksX4_looks_4 14 rfl rfl)
theorem dX4_looks_108 : decode cX4_looks 108 = .ok (.iadd, 1) := dk_96 (dk_at dksX4_looks_4 15 rfl rfl)
theorem dX4_looks_109 : decode cX4_looks 109 = .ok (.putfield 178, 3) := dk_181 0 178 (dk_at dksX4_looks_4 16 rfl rfl)
theorem dX4_looks_112 : decode cX4_looks 112 = .ok (.iinc 3 1, 3) := dk_132 3 1 (dk_at dksX4_looks_4 19 rfl rfl)
theorem dX4_looks_115 : decode cX4_looks 115 = .ok (.goto (-80), 3) := dk_167 255 176 (dk_at dksX4_looks_5 0 rfl rfl)
theorem dX4_looks_118 : decode cX4_looks 118 = .ok (.iinc 2 1, 3) := dk_132 2 1 (dk_at dksX4_looks_5 3 rfl rfl)
theorem dX4_looks_121 : decode cX4_looks 121 = .ok (.goto (-98), 3) := dk_167 255 158 (dk_at dksX4_looks_5 6 rfl rfl)
theorem dX4_looks_124 : decode cX4_looks 124 = .ok (.iinc 1 1, 3) := dk_132 1 1 (dk_at dksX4_looks_5 9 rfl rfl)
theorem dX4_looks_127 : decode cX4_looks 127 = .ok (.goto (-116), 3) := dk_167 255 140 (dk_at dksX4_looks_5 12 rfl rfl)
theorem dX4_looks_130 : decode cX4_looks 130 = .ok (.return_, 1) := dk_177 (dk_at dksX4_looks_5 15 rfl rfl)
abbrev cX4_marksFired : ByteArray := prog_14_method_30_code
def yX4_marksFired : MethodName := ⟨RX4, "marksFired", "()V"⟩
def dkwX4_marksFired_3 : List UInt8 := [5, 182, 0, 120, 182, 0, 128, 184, 0, 169, 4, 84, 132, 1, 1, 167, 255, 193, 177]
abbrev dktX4_marksFired_3 : List UInt8 := dkwX4_marksFired_3 ++ []
def dkwX4_marksFired_2 : List UInt8 := [4, 182, 0, 120, 182, 0, 128, 42, 27, 5, 182, 0, 120, 2, 160, 0, 7, 2, 167, 0, 13, 42, 42, 27]
abbrev dktX4_marksFired_2 : List UInt8 := dkwX4_marksFired_2 ++ dktX4_marksFired_3
def dkwX4_marksFired_1 : List UInt8 := [27, 42, 180, 0, 7, 16, 6, 46, 162, 0, 58, 42, 180, 0, 42, 42, 27, 3, 182, 0, 120, 42, 42, 27]
abbrev dktX4_marksFired_1 : List UInt8 := dkwX4_marksFired_1 ++ dktX4_marksFired_2
def dkwX4_marksFired_0 : List UInt8 := [3, 60, 27, 17, 13, 32, 162, 0, 16, 42, 180, 0, 42, 27, 3, 84, 132, 1, 1, 167, 255, 239, 3, 60]
abbrev dktX4_marksFired_0 : List UInt8 := dkwX4_marksFired_0 ++ dktX4_marksFired_1
theorem dksX4_marksFired_0 : cX4_marksFired.data.toList.drop 0 = dktX4_marksFired_0 := by decide +kernel
theorem dksX4_marksFired_1 : cX4_marksFired.data.toList.drop 24 = dktX4_marksFired_1 := dk_seg dksX4_marksFired_0 24 rfl rfl
theorem dksX4_marksFired_2 : cX4_marksFired.data.toList.drop 48 = dktX4_marksFired_2 := dk_seg dksX4_marksFired_1 24 rfl rfl
theorem dksX4_marksFired_3 : cX4_marksFired.data.toList.drop 72 = dktX4_marksFired_3 := dk_seg dksX4_marksFired_2 24 rfl rfl
theorem dX4_marksFired_0 : decode cX4_marksFired 0 = .ok (.iconst 0, 1) := dk_3 (dk_at dksX4_marksFired_0 0 rfl rfl)
theorem dX4_marksFired_1 : decode cX4_marksFired 1 = .ok (.istore_n 1, 1) := dk_60 (dk_at dksX4_marksFired_0 1 rfl rfl)
theorem dX4_marksFired_2 : decode cX4_marksFired 2 = .ok (.iload_n 1, 1) := dk_27 (dk_at dksX4_marksFired_0 2 rfl rfl)
theorem dX4_marksFired_3 : decode cX4_marksFired 3 = .ok (.sipush 3360, 3) := dk_17 13 32 (dk_at dksX4_marksFired_0 3 rfl rfl)
theorem dX4_marksFired_6 : decode cX4_marksFired 6 = .ok (.if_icmp .ge 16, 3) := dk_162 0 16 (dk_at dksX4_marksFired_0 6 rfl rfl)
theorem dX4_marksFired_9 : decode cX4_marksFired 9 = .ok (.aload_n 0, 1) := dk_42 (dk_at dksX4_marksFired_0 9 rfl rfl)
theorem dX4_marksFired_10 : decode cX4_marksFired 10 = .ok (.getfield 42, 3) := dk_180 0 42 (dk_at dksX4_marksFired_0 10 rfl rfl)
theorem dX4_marksFired_13 : decode cX4_marksFired 13 = .ok (.iload_n 1, 1) := dk_27 (dk_at dksX4_marksFired_0 13 rfl rfl)
theorem dX4_marksFired_14 : decode cX4_marksFired 14 = .ok (.iconst 0, 1) := dk_3 (dk_at dksX4_marksFired_0 14 rfl rfl)
theorem dX4_marksFired_15 : decode cX4_marksFired 15 = .ok (.bastore, 1) := dk_84 (dk_at dksX4_marksFired_0 15 rfl rfl)
theorem dX4_marksFired_16 : decode cX4_marksFired 16 = .ok (.iinc 1 1, 3) := dk_132 1 1 (dk_at dksX4_marksFired_0 16 rfl rfl)
theorem dX4_marksFired_19 : decode cX4_marksFired 19 = .ok (.goto (-17), 3) := dk_167 255 239 (dk_at dksX4_marksFired_0 19 rfl rfl)
theorem dX4_marksFired_22 : decode cX4_marksFired 22 = .ok (.iconst 0, 1) := dk_3 (dk_at dksX4_marksFired_0 22 rfl rfl)
theorem dX4_marksFired_23 : decode cX4_marksFired 23 = .ok (.istore_n 1, 1) := dk_60 (dk_at dksX4_marksFired_0 23 rfl rfl)
theorem dX4_marksFired_24 : decode cX4_marksFired 24 = .ok (.iload_n 1, 1) := dk_27 (dk_at dksX4_marksFired_1 0 rfl rfl)
theorem dX4_marksFired_25 : decode cX4_marksFired 25 = .ok (.aload_n 0, 1) := dk_42 (dk_at dksX4_marksFired_1 1 rfl rfl)
theorem dX4_marksFired_26 : decode cX4_marksFired 26 = .ok (.getfield 7, 3) := dk_180 0 7 (dk_at dksX4_marksFired_1 2 rfl rfl)
theorem dX4_marksFired_29 : decode cX4_marksFired 29 = .ok (.bipush 6, 2) := dk_16 6 (dk_at dksX4_marksFired_1 5 rfl rfl)
theorem dX4_marksFired_31 : decode cX4_marksFired 31 = .ok (.iaload, 1) := dk_46 (dk_at dksX4_marksFired_1 7 rfl rfl)
theorem dX4_marksFired_32 : decode cX4_marksFired 32 = .ok (.if_icmp .ge 58, 3) := dk_162 0 58 (dk_at dksX4_marksFired_1 8 rfl rfl)
theorem dX4_marksFired_35 : decode cX4_marksFired 35 = .ok (.aload_n 0, 1) := dk_42 (dk_at dksX4_marksFired_1 11 rfl rfl)
theorem dX4_marksFired_36 : decode cX4_marksFired 36 = .ok (.getfield 42, 3) := dk_180 0 42 (dk_at dksX4_marksFired_1 12 rfl rfl)
theorem dX4_marksFired_39 : decode cX4_marksFired 39 = .ok (.aload_n 0, 1) := dk_42 (dk_at dksX4_marksFired_1 15 rfl rfl)
theorem dX4_marksFired_40 : decode cX4_marksFired 40 = .ok (.iload_n 1, 1) := dk_27 (dk_at dksX4_marksFired_1 16 rfl rfl)
theorem dX4_marksFired_41 : decode cX4_marksFired 41 = .ok (.iconst 0, 1) := dk_3 (dk_at dksX4_marksFired_1 17 rfl rfl)
theorem dX4_marksFired_42 : decode cX4_marksFired 42 = .ok (.invokevirtual 120, 3) := dk_182 0 120 (dk_at dksX4_marksFired_1 18 rfl rfl)
theorem dX4_marksFired_45 : decode cX4_marksFired 45 = .ok (.aload_n 0, 1) := dk_42 (dk_at dksX4_marksFired_1 21 rfl rfl)
theorem dX4_marksFired_46 : decode cX4_marksFired 46 = .ok (.aload_n 0, 1) := dk_42 (dk_at dksX4_marksFired_1 22 rfl rfl)
theorem dX4_marksFired_47 : decode cX4_marksFired 47 = .ok (.iload_n 1, 1) := dk_27 (dk_at dksX4_marksFired_1 23 rfl rfl)
theorem dX4_marksFired_48 : decode cX4_marksFired 48 = .ok (.iconst 1, 1) := dk_4 (dk_at dksX4_marksFired_2 0 rfl rfl)
theorem dX4_marksFired_49 : decode cX4_marksFired 49 = .ok (.invokevirtual 120, 3) := dk_182 0 120 (dk_at dksX4_marksFired_2 1 rfl rfl)
theorem dX4_marksFired_52 : decode cX4_marksFired 52 = .ok (.invokevirtual 128, 3) := dk_182 0 128 (dk_at dksX4_marksFired_2 4 rfl rfl)
theorem dX4_marksFired_55 : decode cX4_marksFired 55 = .ok (.aload_n 0, 1) := dk_42 (dk_at dksX4_marksFired_2 7 rfl rfl)
theorem dX4_marksFired_56 : decode cX4_marksFired 56 = .ok (.iload_n 1, 1) := dk_27 (dk_at dksX4_marksFired_2 8 rfl rfl)
theorem dX4_marksFired_57 : decode cX4_marksFired 57 = .ok (.iconst 2, 1) := dk_5 (dk_at dksX4_marksFired_2 9 rfl rfl)
theorem dX4_marksFired_58 : decode cX4_marksFired 58 = .ok (.invokevirtual 120, 3) := dk_182 0 120 (dk_at dksX4_marksFired_2 10 rfl rfl)
theorem dX4_marksFired_61 : decode cX4_marksFired 61 = .ok (.iconst (-1), 1) := dk_2 (dk_at dksX4_marksFired_2 13 rfl rfl)
theorem dX4_marksFired_62 : decode cX4_marksFired 62 = .ok (.if_icmp .ne 7, 3) := dk_160 0 7 (dk_at dksX4_marksFired_2 14 rfl rfl)
theorem dX4_marksFired_65 : decode cX4_marksFired 65 = .ok (.iconst (-1), 1) := dk_2 (dk_at dksX4_marksFired_2 17 rfl rfl)
theorem dX4_marksFired_66 : decode cX4_marksFired 66 = .ok (.goto 13, 3) := dk_167 0 13 (dk_at dksX4_marksFired_2 18 rfl rfl)
theorem dX4_marksFired_69 : decode cX4_marksFired 69 = .ok (.aload_n 0, 1) := dk_42 (dk_at dksX4_marksFired_2 21 rfl rfl)
theorem dX4_marksFired_70 : decode cX4_marksFired 70 = .ok (.aload_n 0, 1) := dk_42 (dk_at dksX4_marksFired_2 22 rfl rfl)
theorem dX4_marksFired_71 : decode cX4_marksFired 71 = .ok (.iload_n 1, 1) := dk_27 (dk_at dksX4_marksFired_2 23 rfl rfl)
theorem dX4_marksFired_72 : decode cX4_marksFired 72 = .ok (.iconst 2, 1) := dk_5 (dk_at dksX4_marksFired_3 0 rfl rfl)
theorem dX4_marksFired_73 : decode cX4_marksFired 73 = .ok (.invokevirtual 120, 3) := dk_182 0 120 (dk_at dksX4_marksFired_3 1 rfl rfl)
theorem dX4_marksFired_76 : decode cX4_marksFired 76 = .ok (.invokevirtual 128, 3) := dk_182 0 128 (dk_at dksX4_marksFired_3 4 rfl rfl)
theorem dX4_marksFired_79 : decode cX4_marksFired 79 = .ok (.invokestatic 169, 3) := dk_184 0 169 (dk_at dksX4_marksFired_3 7 rfl rfl)
theorem dX4_marksFired_82 : decode cX4_marksFired 82 = .ok (.iconst 1, 1) := dk_4 (dk_at dksX4_marksFired_3 10 rfl rfl)
theorem dX4_marksFired_83 : decode cX4_marksFired 83 = .ok (.bastore, 1) := dk_84 (dk_at dksX4_marksFired_3 11 rfl rfl)
theorem dX4_marksFired_84 : decode cX4_marksFired 84 = .ok (.iinc 1 1, 3) := dk_132 1 1 (dk_at dksX4_marksFired_3 12 rfl rfl)
theorem dX4_marksFired_87 : decode cX4_marksFired 87 = .ok (.goto (-63), 3) := dk_167 255 193 (dk_at dksX4_marksFired_3 15 rfl rfl)
theorem dX4_marksFired_90 : decode cX4_marksFired 90 = .ok (.return_, 1) := dk_177 (dk_at dksX4_marksFired_3 18 rfl rfl)
abbrev cX4_mark : ByteArray := prog_14_method_29_code
def yX4_mark : MethodName := ⟨RX4, "mark", "(III)I"⟩
def dkwX4_mark_0 : List UInt8 := [17, 1, 164, 26, 104, 16, 21, 27, 104, 96, 28, 96, 4, 96, 172]
abbrev dktX4_mark_0 : List UInt8 := dkwX4_mark_0 ++ []
theorem dksX4_mark_0 : cX4_mark.data.toList.drop 0 = dktX4_mark_0 := by decide +kernel
theorem dX4_mark_0 : decode cX4_mark 0 = .ok (.sipush 420, 3) := dk_17 1 164 (dk_at dksX4_mark_0 0 rfl rfl)
theorem dX4_mark_3 : decode cX4_mark 3 = .ok (.iload_n 0, 1) := dk_26 (dk_at dksX4_mark_0 3 rfl rfl)
theorem dX4_mark_4 : decode cX4_mark 4 = .ok (.imul, 1) := dk_104 (dk_at dksX4_mark_0 4 rfl rfl)
theorem dX4_mark_5 : decode cX4_mark 5 = .ok (.bipush 21, 2) := dk_16 21 (dk_at dksX4_mark_0 5 rfl rfl)
theorem dX4_mark_7 : decode cX4_mark 7 = .ok (.iload_n 1, 1) := dk_27 (dk_at dksX4_mark_0 7 rfl rfl)
theorem dX4_mark_8 : decode cX4_mark 8 = .ok (.imul, 1) := dk_104 (dk_at dksX4_mark_0 8 rfl rfl)
theorem dX4_mark_9 : decode cX4_mark 9 = .ok (.iadd, 1) := dk_96 (dk_at dksX4_mark_0 9 rfl rfl)
theorem dX4_mark_10 : decode cX4_mark 10 = .ok (.iload_n 2, 1) := dk_28 (dk_at dksX4_mark_0 10 rfl rfl)
theorem dX4_mark_11 : decode cX4_mark 11 = .ok (.iadd, 1) := dk_96 (dk_at dksX4_mark_0 11 rfl rfl)
theorem dX4_mark_12 : decode cX4_mark 12 = .ok (.iconst 1, 1) := dk_4 (dk_at dksX4_mark_0 12 rfl rfl)
theorem dX4_mark_13 : decode cX4_mark 13 = .ok (.iadd, 1) := dk_96 (dk_at dksX4_mark_0 13 rfl rfl)
theorem dX4_mark_14 : decode cX4_mark 14 = .ok (.ireturn, 1) := dk_172 (dk_at dksX4_mark_0 14 rfl rfl)
abbrev cX4_isMatch : ByteArray := prog_14_method_28_code
def yX4_isMatch : MethodName := ⟨RX4, "isMatch", "(III)Z"⟩
def dkwX4_isMatch_4 : List UInt8 := [2, 160, 0, 7, 4, 167, 0, 4, 3, 172]
abbrev dktX4_isMatch_4 : List UInt8 := dkwX4_isMatch_4 ++ []
def dkwX4_isMatch_3 : List UInt8 := [42, 42, 27, 8, 182, 0, 149, 182, 0, 162, 42, 42, 27, 16, 6, 182, 0, 149, 182, 0, 162, 182, 0, 165]
abbrev dktX4_isMatch_3 : List UInt8 := dkwX4_isMatch_3 ++ dktX4_isMatch_4
def dkwX4_isMatch_2 : List UInt8 := [167, 0, 4, 3, 172, 29, 2, 159, 0, 5, 3, 172, 21, 4, 153, 0, 38, 42, 42, 27, 7, 182, 0, 149]
abbrev dktX4_isMatch_2 : List UInt8 := dkwX4_isMatch_2 ++ dktX4_isMatch_3
def dkwX4_isMatch_1 : List UInt8 := [21, 4, 4, 160, 0, 24, 29, 2, 159, 0, 17, 42, 27, 7, 29, 182, 0, 158, 153, 0, 7, 4]
abbrev dktX4_isMatch_1 : List UInt8 := dkwX4_isMatch_1 ++ dktX4_isMatch_2
def dkwX4_isMatch_0 : List UInt8 := [42, 182, 0, 155, 42, 27, 3, 28, 182, 0, 158, 154, 0, 5, 3, 172, 42, 27, 6, 182, 0, 149, 54, 4]
abbrev dktX4_isMatch_0 : List UInt8 := dkwX4_isMatch_0 ++ dktX4_isMatch_1
theorem dksX4_isMatch_0 : cX4_isMatch.data.toList.drop 0 = dktX4_isMatch_0 := by decide +kernel
theorem dksX4_isMatch_1 : cX4_isMatch.data.toList.drop 24 = dktX4_isMatch_1 := dk_seg dksX4_isMatch_0 24 rfl rfl
theorem dksX4_isMatch_2 : cX4_isMatch.data.toList.drop 46 = dktX4_isMatch_2 := dk_seg dksX4_isMatch_1 22 rfl rfl
theorem dksX4_isMatch_3 : cX4_isMatch.data.toList.drop 70 = dktX4_isMatch_3 := dk_seg dksX4_isMatch_2 24 rfl rfl
theorem dksX4_isMatch_4 : cX4_isMatch.data.toList.drop 94 = dktX4_isMatch_4 := dk_seg dksX4_isMatch_3 24 rfl rfl
theorem dX4_isMatch_0 : decode cX4_isMatch 0 = .ok (.aload_n 0, 1) := dk_42 (dk_at dksX4_isMatch_0 0 rfl rfl)
theorem dX4_isMatch_1 : decode cX4_isMatch 1 = .ok (.invokevirtual 155, 3) := dk_182 0 155 (dk_at dksX4_isMatch_0 1 rfl rfl)
theorem dX4_isMatch_4 : decode cX4_isMatch 4 = .ok (.aload_n 0, 1) := dk_42 (dk_at dksX4_isMatch_0 4 rfl rfl)
theorem dX4_isMatch_5 : decode cX4_isMatch 5 = .ok (.iload_n 1, 1) := dk_27 (dk_at dksX4_isMatch_0 5 rfl rfl)
theorem dX4_isMatch_6 : decode cX4_isMatch 6 = .ok (.iconst 0, 1) := dk_3 (dk_at dksX4_isMatch_0 6 rfl rfl)
theorem dX4_isMatch_7 : decode cX4_isMatch 7 = .ok (.iload_n 2, 1) := dk_28 (dk_at dksX4_isMatch_0 7 rfl rfl)
theorem dX4_isMatch_8 : decode cX4_isMatch 8 = .ok (.invokevirtual 158, 3) := dk_182 0 158 (dk_at dksX4_isMatch_0 8 rfl rfl)
theorem dX4_isMatch_11 : decode cX4_isMatch 11 = .ok (.ifCond .ne 5, 3) := dk_154 0 5 (dk_at dksX4_isMatch_0 11 rfl rfl)
theorem dX4_isMatch_14 : decode cX4_isMatch 14 = .ok (.iconst 0, 1) := dk_3 (dk_at dksX4_isMatch_0 14 rfl rfl)
theorem dX4_isMatch_15 : decode cX4_isMatch 15 = .ok (.ireturn, 1) := dk_172 (dk_at dksX4_isMatch_0 15 rfl rfl)
theorem dX4_isMatch_16 : decode cX4_isMatch 16 = .ok (.aload_n 0, 1) := dk_42 (dk_at dksX4_isMatch_0 16 rfl rfl)
theorem dX4_isMatch_17 : decode cX4_isMatch 17 = .ok (.iload_n 1, 1) := dk_27 (dk_at dksX4_isMatch_0 17 rfl rfl)
theorem dX4_isMatch_18 : decode cX4_isMatch 18 = .ok (.iconst 3, 1) := dk_6 (dk_at dksX4_isMatch_0 18 rfl rfl)
theorem dX4_isMatch_19 : decode cX4_isMatch 19 = .ok (.invokevirtual 149, 3) := dk_182 0 149 (dk_at dksX4_isMatch_0 19 rfl rfl)
theorem dX4_isMatch_22 : decode cX4_isMatch 22 = .ok (.istore 4, 2) := dk_54 4 (dk_at dksX4_isMatch_0 22 rfl rfl)
theorem dX4_isMatch_24 : decode cX4_isMatch 24 = .ok (.iload 4, 2) := dk_21 4 (dk_at dksX4_isMatch_1 0 rfl rfl)
theorem dX4_isMatch_26 : decode cX4_isMatch 26 = .ok (.iconst 1, 1) := dk_4 (dk_at dksX4_isMatch_1 2 rfl rfl)
theorem dX4_isMatch_27 : decode cX4_isMatch 27 = .ok (.if_icmp .ne 24, 3) := dk_160 0 24 (dk_at dksX4_isMatch_1 3 rfl rfl)
theorem dX4_isMatch_30 : decode cX4_isMatch 30 = .ok (.iload_n 3, 1) := dk_29 (dk_at dksX4_isMatch_1 6 rfl rfl)
theorem dX4_isMatch_31 : decode cX4_isMatch 31 = .ok (.iconst (-1), 1) := dk_2 (dk_at dksX4_isMatch_1 7 rfl rfl)
theorem dX4_isMatch_32 : decode cX4_isMatch 32 = .ok (.if_icmp .eq 17, 3) := dk_159 0 17 (dk_at dksX4_isMatch_1 8 rfl rfl)
theorem dX4_isMatch_35 : decode cX4_isMatch 35 = .ok (.aload_n 0, 1) := dk_42 (dk_at dksX4_isMatch_1 11 rfl rfl)
theorem dX4_isMatch_36 : decode cX4_isMatch 36 = .ok (.iload_n 1, 1) := dk_27 (dk_at dksX4_isMatch_1 12 rfl rfl)
theorem dX4_isMatch_37 : decode cX4_isMatch 37 = .ok (.iconst 4, 1) := dk_7 (dk_at dksX4_isMatch_1 13 rfl rfl)
theorem dX4_isMatch_38 : decode cX4_isMatch 38 = .ok (.iload_n 3, 1) := dk_29 (dk_at dksX4_isMatch_1 14 rfl rfl)
theorem dX4_isMatch_39 : decode cX4_isMatch 39 = .ok (.invokevirtual 158, 3) := dk_182 0 158 (dk_at dksX4_isMatch_1 15 rfl rfl)
theorem dX4_isMatch_42 : decode cX4_isMatch 42 = .ok (.ifCond .eq 7, 3) := dk_153 0 7 (dk_at dksX4_isMatch_1 18 rfl rfl)
theorem dX4_isMatch_45 : decode cX4_isMatch 45 = .ok (.iconst 1, 1) := dk_4 (dk_at dksX4_isMatch_1 21 rfl rfl)
theorem dX4_isMatch_46 : decode cX4_isMatch 46 = .ok (.goto 4, 3) := dk_167 0 4 (dk_at dksX4_isMatch_2 0 rfl rfl)
theorem dX4_isMatch_49 : decode cX4_isMatch 49 = .ok (.iconst 0, 1) := dk_3 (dk_at dksX4_isMatch_2 3 rfl rfl)
theorem dX4_isMatch_50 : decode cX4_isMatch 50 = .ok (.ireturn, 1) := dk_172 (dk_at dksX4_isMatch_2 4 rfl rfl)
theorem dX4_isMatch_51 : decode cX4_isMatch 51 = .ok (.iload_n 3, 1) := dk_29 (dk_at dksX4_isMatch_2 5 rfl rfl)
theorem dX4_isMatch_52 : decode cX4_isMatch 52 = .ok (.iconst (-1), 1) := dk_2 (dk_at dksX4_isMatch_2 6 rfl rfl)
theorem dX4_isMatch_53 : decode cX4_isMatch 53 = .ok (.if_icmp .eq 5, 3) := dk_159 0 5 (dk_at dksX4_isMatch_2 7 rfl rfl)
theorem dX4_isMatch_56 : decode cX4_isMatch 56 = .ok (.iconst 0, 1) := dk_3 (dk_at dksX4_isMatch_2 10 rfl rfl)
theorem dX4_isMatch_57 : decode cX4_isMatch 57 = .ok (.ireturn, 1) := dk_172 (dk_at dksX4_isMatch_2 11 rfl rfl)
theorem dX4_isMatch_58 : decode cX4_isMatch 58 = .ok (.iload 4, 2) := dk_21 4 (dk_at dksX4_isMatch_2 12 rfl rfl)
theorem dX4_isMatch_60 : decode cX4_isMatch 60 = .ok (.ifCond .eq 38, 3) := dk_153 0 38 (dk_at dksX4_isMatch_2 14 rfl rfl)
theorem dX4_isMatch_63 : decode cX4_isMatch 63 = .ok (.aload_n 0, 1) := dk_42 (dk_at dksX4_isMatch_2 17 rfl rfl)
theorem dX4_isMatch_64 : decode cX4_isMatch 64 = .ok (.aload_n 0, 1) := dk_42 (dk_at dksX4_isMatch_2 18 rfl rfl)
theorem dX4_isMatch_65 : decode cX4_isMatch 65 = .ok (.iload_n 1, 1) := dk_27 (dk_at dksX4_isMatch_2 19 rfl rfl)
theorem dX4_isMatch_66 : decode cX4_isMatch 66 = .ok (.iconst 4, 1) := dk_7 (dk_at dksX4_isMatch_2 20 rfl rfl)
theorem dX4_isMatch_67 : decode cX4_isMatch 67 = .ok (.invokevirtual 149, 3) := dk_182 0 149 (dk_at dksX4_isMatch_2 21 rfl rfl)
theorem dX4_isMatch_70 : decode cX4_isMatch 70 = .ok (.aload_n 0, 1) := dk_42 (dk_at dksX4_isMatch_3 0 rfl rfl)
theorem dX4_isMatch_71 : decode cX4_isMatch 71 = .ok (.aload_n 0, 1) := dk_42 (dk_at dksX4_isMatch_3 1 rfl rfl)
theorem dX4_isMatch_72 : decode cX4_isMatch 72 = .ok (.iload_n 1, 1) := dk_27 (dk_at dksX4_isMatch_3 2 rfl rfl)
theorem dX4_isMatch_73 : decode cX4_isMatch 73 = .ok (.iconst 5, 1) := dk_8 (dk_at dksX4_isMatch_3 3 rfl rfl)
theorem dX4_isMatch_74 : decode cX4_isMatch 74 = .ok (.invokevirtual 149, 3) := dk_182 0 149 (dk_at dksX4_isMatch_3 4 rfl rfl)
theorem dX4_isMatch_77 : decode cX4_isMatch 77 = .ok (.invokevirtual 162, 3) := dk_182 0 162 (dk_at dksX4_isMatch_3 7 rfl rfl)
theorem dX4_isMatch_80 : decode cX4_isMatch 80 = .ok (.aload_n 0, 1) := dk_42 (dk_at dksX4_isMatch_3 10 rfl rfl)
theorem dX4_isMatch_81 : decode cX4_isMatch 81 = .ok (.aload_n 0, 1) := dk_42 (dk_at dksX4_isMatch_3 11 rfl rfl)
theorem dX4_isMatch_82 : decode cX4_isMatch 82 = .ok (.iload_n 1, 1) := dk_27 (dk_at dksX4_isMatch_3 12 rfl rfl)
theorem dX4_isMatch_83 : decode cX4_isMatch 83 = .ok (.bipush 6, 2) := dk_16 6 (dk_at dksX4_isMatch_3 13 rfl rfl)
theorem dX4_isMatch_85 : decode cX4_isMatch 85 = .ok (.invokevirtual 149, 3) := dk_182 0 149 (dk_at dksX4_isMatch_3 15 rfl rfl)
theorem dX4_isMatch_88 : decode cX4_isMatch 88 = .ok (.invokevirtual 162, 3) := dk_182 0 162 (dk_at dksX4_isMatch_3 18 rfl rfl)
theorem dX4_isMatch_91 : decode cX4_isMatch 91 = .ok (.invokevirtual 165, 3) := dk_182 0 165 (dk_at dksX4_isMatch_3 21 rfl rfl)
theorem dX4_isMatch_94 : decode cX4_isMatch 94 = .ok (.iconst (-1), 1) := dk_2 (dk_at dksX4_isMatch_4 0 rfl rfl)
theorem dX4_isMatch_95 : decode cX4_isMatch 95 = .ok (.if_icmp .ne 7, 3) := dk_160 0 7 (dk_at dksX4_isMatch_4 1 rfl rfl)
theorem dX4_isMatch_98 : decode cX4_isMatch 98 = .ok (.iconst 1, 1) := dk_4 (dk_at dksX4_isMatch_4 4 rfl rfl)
theorem dX4_isMatch_99 : decode cX4_isMatch 99 = .ok (.goto 4, 3) := dk_167 0 4 (dk_at dksX4_isMatch_4 5 rfl rfl)
theorem dX4_isMatch_102 : decode cX4_isMatch 102 = .ok (.iconst 0, 1) := dk_3 (dk_at dksX4_isMatch_4 8 rfl rfl)
theorem dX4_isMatch_103 : decode cX4_isMatch 103 = .ok (.ireturn, 1) := dk_172 (dk_at dksX4_isMatch_4 9 rfl rfl)
abbrev cX4_unbinds : ByteArray := prog_14_method_27_code
def yX4_unbinds : MethodName := ⟨RX4, "unbinds", "()V"⟩
def dkwX4_unbinds_0 : List UInt8 := [42, 180, 0, 36, 3, 2, 79, 42, 180, 0, 36, 4, 2, 79, 42, 180, 0, 36, 5, 2, 79, 177]
abbrev dktX4_unbinds_0 : List UInt8 := dkwX4_unbinds_0 ++ []
theorem dksX4_unbinds_0 : cX4_unbinds.data.toList.drop 0 = dktX4_unbinds_0 := by decide +kernel
theorem dX4_unbinds_0 : decode cX4_unbinds 0 = .ok (.aload_n 0, 1) := dk_42 (dk_at dksX4_unbinds_0 0 rfl rfl)
theorem dX4_unbinds_1 : decode cX4_unbinds 1 = .ok (.getfield 36, 3) := dk_180 0 36 (dk_at dksX4_unbinds_0 1 rfl rfl)
theorem dX4_unbinds_4 : decode cX4_unbinds 4 = .ok (.iconst 0, 1) := dk_3 (dk_at dksX4_unbinds_0 4 rfl rfl)
theorem dX4_unbinds_5 : decode cX4_unbinds 5 = .ok (.iconst (-1), 1) := dk_2 (dk_at dksX4_unbinds_0 5 rfl rfl)
theorem dX4_unbinds_6 : decode cX4_unbinds 6 = .ok (.iastore, 1) := dk_79 (dk_at dksX4_unbinds_0 6 rfl rfl)
theorem dX4_unbinds_7 : decode cX4_unbinds 7 = .ok (.aload_n 0, 1) := dk_42 (dk_at dksX4_unbinds_0 7 rfl rfl)
theorem dX4_unbinds_8 : decode cX4_unbinds 8 = .ok (.getfield 36, 3) := dk_180 0 36 (dk_at dksX4_unbinds_0 8 rfl rfl)
theorem dX4_unbinds_11 : decode cX4_unbinds 11 = .ok (.iconst 1, 1) := dk_4 (dk_at dksX4_unbinds_0 11 rfl rfl)
theorem dX4_unbinds_12 : decode cX4_unbinds 12 = .ok (.iconst (-1), 1) := dk_2 (dk_at dksX4_unbinds_0 12 rfl rfl)
theorem dX4_unbinds_13 : decode cX4_unbinds 13 = .ok (.iastore, 1) := dk_79 (dk_at dksX4_unbinds_0 13 rfl rfl)
theorem dX4_unbinds_14 : decode cX4_unbinds 14 = .ok (.aload_n 0, 1) := dk_42 (dk_at dksX4_unbinds_0 14 rfl rfl)
theorem dX4_unbinds_15 : decode cX4_unbinds 15 = .ok (.getfield 36, 3) := dk_180 0 36 (dk_at dksX4_unbinds_0 15 rfl rfl)
theorem dX4_unbinds_18 : decode cX4_unbinds 18 = .ok (.iconst 2, 1) := dk_5 (dk_at dksX4_unbinds_0 18 rfl rfl)
theorem dX4_unbinds_19 : decode cX4_unbinds 19 = .ok (.iconst (-1), 1) := dk_2 (dk_at dksX4_unbinds_0 19 rfl rfl)
theorem dX4_unbinds_20 : decode cX4_unbinds 20 = .ok (.iastore, 1) := dk_79 (dk_at dksX4_unbinds_0 20 rfl rfl)
theorem dX4_unbinds_21 : decode cX4_unbinds 21 = .ok (.return_, 1) := dk_177 (dk_at dksX4_unbinds_0 21 rfl rfl)
abbrev cX4_fitsPattern : ByteArray := prog_14_method_25_code
def yX4_fitsPattern : MethodName := ⟨RX4, "fitsPattern", "(III)Z"⟩
def dkwX4_fitsPattern_3 : List UInt8 := [3, 172]
abbrev dktX4_fitsPattern_3 : List UInt8 := dkwX4_fitsPattern_3 ++ []
def dkwX4_fitsPattern_2 : List UInt8 := [96, 182, 0, 149, 42, 180, 0, 7, 17, 0, 155, 29, 96, 46, 182, 0, 152, 153, 0, 7, 4, 167, 0, 4]
abbrev dktX4_fitsPattern_2 : List UInt8 := dkwX4_fitsPattern_2 ++ dktX4_fitsPattern_3
def dkwX4_fitsPattern_1 : List UInt8 := [182, 0, 149, 42, 180, 0, 7, 17, 0, 135, 29, 96, 46, 182, 0, 152, 153, 0, 32, 42, 42, 27, 28, 5]
abbrev dktX4_fitsPattern_1 : List UInt8 := dkwX4_fitsPattern_1 ++ dktX4_fitsPattern_2
def dkwX4_fitsPattern_0 : List UInt8 := [42, 27, 28, 182, 0, 149, 42, 180, 0, 7, 16, 115, 29, 96, 46, 160, 0, 57, 42, 42, 27, 28, 4, 96]
abbrev dktX4_fitsPattern_0 : List UInt8 := dkwX4_fitsPattern_0 ++ dktX4_fitsPattern_1
theorem dksX4_fitsPattern_0 : cX4_fitsPattern.data.toList.drop 0 = dktX4_fitsPattern_0 := by decide +kernel
theorem dksX4_fitsPattern_1 : cX4_fitsPattern.data.toList.drop 24 = dktX4_fitsPattern_1 := dk_seg dksX4_fitsPattern_0 24 rfl rfl
theorem dksX4_fitsPattern_2 : cX4_fitsPattern.data.toList.drop 48 = dktX4_fitsPattern_2 := dk_seg dksX4_fitsPattern_1 24 rfl rfl
theorem dksX4_fitsPattern_3 : cX4_fitsPattern.data.toList.drop 72 = dktX4_fitsPattern_3 := dk_seg dksX4_fitsPattern_2 24 rfl rfl
theorem dX4_fitsPattern_0 : decode cX4_fitsPattern 0 = .ok (.aload_n 0, 1) := dk_42 (dk_at dksX4_fitsPattern_0 0 rfl rfl)
theorem dX4_fitsPattern_1 : decode cX4_fitsPattern 1 = .ok (.iload_n 1, 1) := dk_27 (dk_at dksX4_fitsPattern_0 1 rfl rfl)
theorem dX4_fitsPattern_2 : decode cX4_fitsPattern 2 = .ok (.iload_n 2, 1) := dk_28 (dk_at dksX4_fitsPattern_0 2 rfl rfl)
theorem dX4_fitsPattern_3 : decode cX4_fitsPattern 3 = .ok (.invokevirtual 149, 3) := dk_182 0 149 (dk_at dksX4_fitsPattern_0 3 rfl rfl)
theorem dX4_fitsPattern_6 : decode cX4_fitsPattern 6 = .ok (.aload_n 0, 1) := dk_42 (dk_at dksX4_fitsPattern_0 6 rfl rfl)
theorem dX4_fitsPattern_7 : decode cX4_fitsPattern 7 = .ok (.getfield 7, 3) := dk_180 0 7 (dk_at dksX4_fitsPattern_0 7 rfl rfl)
theorem dX4_fitsPattern_10 : decode cX4_fitsPattern 10 = .ok (.bipush 115, 2) := dk_16 115 (dk_at dksX4_fitsPattern_0 10 rfl rfl)
theorem dX4_fitsPattern_12 : decode cX4_fitsPattern 12 = .ok (.iload_n 3, 1) := dk_29 (dk_at dksX4_fitsPattern_0 12 rfl rfl)
theorem dX4_fitsPattern_13 : decode cX4_fitsPattern 13 = .ok (.iadd, 1) := dk_96 (dk_at dksX4_fitsPattern_0 13 rfl rfl)
theorem dX4_fitsPattern_14 : decode cX4_fitsPattern 14 = .ok (.iaload, 1) := dk_46 (dk_at dksX4_fitsPattern_0 14 rfl rfl)
theorem dX4_fitsPattern_15 : decode cX4_fitsPattern 15 = .ok (.if_icmp .ne 57, 3) := dk_160 0 57 (dk_at dksX4_fitsPattern_0 15 rfl rfl)
theorem dX4_fitsPattern_18 : decode cX4_fitsPattern 18 = .ok (.aload_n 0, 1) := dk_42 (dk_at dksX4_fitsPattern_0 18 rfl rfl)
theorem dX4_fitsPattern_19 : decode cX4_fitsPattern 19 = .ok (.aload_n 0, 1) := dk_42 (dk_at dksX4_fitsPattern_0 19 rfl rfl)
theorem dX4_fitsPattern_20 : decode cX4_fitsPattern 20 = .ok (.iload_n 1, 1) := dk_27 (dk_at dksX4_fitsPattern_0 20 rfl rfl)
theorem dX4_fitsPattern_21 : decode cX4_fitsPattern 21 = .ok (.iload_n 2, 1) := dk_28 (dk_at dksX4_fitsPattern_0 21 rfl rfl)
theorem dX4_fitsPattern_22 : decode cX4_fitsPattern 22 = .ok (.iconst 1, 1) := dk_4 (dk_at dksX4_fitsPattern_0 22 rfl rfl)
theorem dX4_fitsPattern_23 : decode cX4_fitsPattern 23 = .ok (.iadd, 1) := dk_96 (dk_at dksX4_fitsPattern_0 23 rfl rfl)
theorem dX4_fitsPattern_24 : decode cX4_fitsPattern 24 = .ok (.invokevirtual 149, 3) := dk_182 0 149 (dk_at dksX4_fitsPattern_1 0 rfl rfl)
theorem dX4_fitsPattern_27 : decode cX4_fitsPattern 27 = .ok (.aload_n 0, 1) := dk_42 (dk_at dksX4_fitsPattern_1 3 rfl rfl)
theorem dX4_fitsPattern_28 : decode cX4_fitsPattern 28 = .ok (.getfield 7, 3) := dk_180 0 7 (dk_at dksX4_fitsPattern_1 4 rfl rfl)
theorem dX4_fitsPattern_31 : decode cX4_fitsPattern 31 = .ok (.sipush 135, 3) := dk_17 0 135 (dk_at dksX4_fitsPattern_1 7 rfl rfl)
theorem dX4_fitsPattern_34 : decode cX4_fitsPattern 34 = .ok (.iload_n 3, 1) := dk_29 (dk_at dksX4_fitsPattern_1 10 rfl rfl)
theorem dX4_fitsPattern_35 : decode cX4_fitsPattern 35 = .ok (.iadd, 1) := dk_96 (dk_at dksX4_fitsPattern_1 11 rfl rfl)
theorem dX4_fitsPattern_36 : decode cX4_fitsPattern 36 = .ok (.iaload, 1) := dk_46 (dk_at dksX4_fitsPattern_1 12 rfl rfl)
theorem dX4_fitsPattern_37 : decode cX4_fitsPattern 37 = .ok (.invokevirtual 152, 3) := dk_182 0 152 (dk_at dksX4_fitsPattern_1 13 rfl rfl)
theorem dX4_fitsPattern_40 : decode cX4_fitsPattern 40 = .ok (.ifCond .eq 32, 3) := dk_153 0 32 (dk_at dksX4_fitsPattern_1 16 rfl rfl)
theorem dX4_fitsPattern_43 : decode cX4_fitsPattern 43 = .ok (.aload_n 0, 1) := dk_42 (dk_at dksX4_fitsPattern_1 19 rfl rfl)
theorem dX4_fitsPattern_44 : decode cX4_fitsPattern 44 = .ok (.aload_n 0, 1) := dk_42 (dk_at dksX4_fitsPattern_1 20 rfl rfl)
theorem dX4_fitsPattern_45 : decode cX4_fitsPattern 45 = .ok (.iload_n 1, 1) := dk_27 (dk_at dksX4_fitsPattern_1 21 rfl rfl)
theorem dX4_fitsPattern_46 : decode cX4_fitsPattern 46 = .ok (.iload_n 2, 1) := dk_28 (dk_at dksX4_fitsPattern_1 22 rfl rfl)
theorem dX4_fitsPattern_47 : decode cX4_fitsPattern 47 = .ok (.iconst 2, 1) := dk_5 (dk_at dksX4_fitsPattern_1 23 rfl rfl)
theorem dX4_fitsPattern_48 : decode cX4_fitsPattern 48 = .ok (.iadd, 1) := dk_96 (dk_at dksX4_fitsPattern_2 0 rfl rfl)
theorem dX4_fitsPattern_49 : decode cX4_fitsPattern 49 = .ok (.invokevirtual 149, 3) := dk_182 0 149 (dk_at dksX4_fitsPattern_2 1 rfl rfl)
theorem dX4_fitsPattern_52 : decode cX4_fitsPattern 52 = .ok (.aload_n 0, 1) := dk_42 (dk_at dksX4_fitsPattern_2 4 rfl rfl)
theorem dX4_fitsPattern_53 : decode cX4_fitsPattern 53 = .ok (.getfield 7, 3) := dk_180 0 7 (dk_at dksX4_fitsPattern_2 5 rfl rfl)
theorem dX4_fitsPattern_56 : decode cX4_fitsPattern 56 = .ok (.sipush 155, 3) := dk_17 0 155 (dk_at dksX4_fitsPattern_2 8 rfl rfl)
theorem dX4_fitsPattern_59 : decode cX4_fitsPattern 59 = .ok (.iload_n 3, 1) := dk_29 (dk_at dksX4_fitsPattern_2 11 rfl rfl)
theorem dX4_fitsPattern_60 : decode cX4_fitsPattern 60 = .ok (.iadd, 1) := dk_96 (dk_at dksX4_fitsPattern_2 12 rfl rfl)
theorem dX4_fitsPattern_61 : decode cX4_fitsPattern 61 = .ok (.iaload, 1) := dk_46 (dk_at dksX4_fitsPattern_2 13 rfl rfl)
theorem dX4_fitsPattern_62 : decode cX4_fitsPattern 62 = .ok (.invokevirtual 152, 3) := dk_182 0 152 (dk_at dksX4_fitsPattern_2 14 rfl rfl)
theorem dX4_fitsPattern_65 : decode cX4_fitsPattern 65 = .ok (.ifCond .eq 7, 3) := dk_153 0 7 (dk_at dksX4_fitsPattern_2 17 rfl rfl)
theorem dX4_fitsPattern_68 : decode cX4_fitsPattern 68 = .ok (.iconst 1, 1) := dk_4 (dk_at dksX4_fitsPattern_2 20 rfl rfl)
theorem dX4_fitsPattern_69 : decode cX4_fitsPattern 69 = .ok (.goto 4, 3) := dk_167 0 4 (dk_at dksX4_fitsPattern_2 21 rfl rfl)
theorem dX4_fitsPattern_72 : decode cX4_fitsPattern 72 = .ok (.iconst 0, 1) := dk_3 (dk_at dksX4_fitsPattern_3 0 rfl rfl)
theorem dX4_fitsPattern_73 : decode cX4_fitsPattern 73 = .ok (.ireturn, 1) := dk_172 (dk_at dksX4_fitsPattern_3 1 rfl rfl)
abbrev cX4_of : ByteArray := prog_14_method_23_code
def yX4_of : MethodName := ⟨RX4, "of", "(II)I"⟩
def dkwX4_of_0 : List UInt8 := [42, 180, 0, 7, 16, 7, 16, 11, 27, 104, 96, 28, 96, 46, 172]
abbrev dktX4_of_0 : List UInt8 := dkwX4_of_0 ++ []
theorem dksX4_of_0 : cX4_of.data.toList.drop 0 = dktX4_of_0 := by decide +kernel
theorem dX4_of_0 : decode cX4_of 0 = .ok (.aload_n 0, 1) := dk_42 (dk_at dksX4_of_0 0 rfl rfl)
theorem dX4_of_1 : decode cX4_of 1 = .ok (.getfield 7, 3) := dk_180 0 7 (dk_at dksX4_of_0 1 rfl rfl)
theorem dX4_of_4 : decode cX4_of 4 = .ok (.bipush 7, 2) := dk_16 7 (dk_at dksX4_of_0 4 rfl rfl)
theorem dX4_of_6 : decode cX4_of 6 = .ok (.bipush 11, 2) := dk_16 11 (dk_at dksX4_of_0 6 rfl rfl)
theorem dX4_of_8 : decode cX4_of 8 = .ok (.iload_n 1, 1) := dk_27 (dk_at dksX4_of_0 8 rfl rfl)
theorem dX4_of_9 : decode cX4_of 9 = .ok (.imul, 1) := dk_104 (dk_at dksX4_of_0 9 rfl rfl)
theorem dX4_of_10 : decode cX4_of 10 = .ok (.iadd, 1) := dk_96 (dk_at dksX4_of_0 10 rfl rfl)
theorem dX4_of_11 : decode cX4_of 11 = .ok (.iload_n 2, 1) := dk_28 (dk_at dksX4_of_0 11 rfl rfl)
theorem dX4_of_12 : decode cX4_of 12 = .ok (.iadd, 1) := dk_96 (dk_at dksX4_of_0 12 rfl rfl)
theorem dX4_of_13 : decode cX4_of 13 = .ok (.iaload, 1) := dk_46 (dk_at dksX4_of_0 13 rfl rfl)
theorem dX4_of_14 : decode cX4_of 14 = .ok (.ireturn, 1) := dk_172 (dk_at dksX4_of_0 14 rfl rfl)
abbrev cX4_fits : ByteArray := prog_14_method_24_code
def yX4_fits : MethodName := ⟨RX4, "fits", "(II)Z"⟩
def dkwX4_fits_2 : List UInt8 := [160, 0, 7, 4, 167, 0, 4, 3, 172]
abbrev dktX4_fits_2 : List UInt8 := dkwX4_fits_2 ++ []
def dkwX4_fits_1 : List UInt8 := [180, 0, 36, 29, 46, 2, 160, 0, 10, 42, 180, 0, 36, 29, 28, 79, 42, 180, 0, 36, 29, 46, 28]
abbrev dktX4_fits_1 : List UInt8 := dkwX4_fits_1 ++ dktX4_fits_2
def dkwX4_fits_0 : List UInt8 := [27, 16, 10, 162, 0, 14, 27, 28, 160, 0, 7, 4, 167, 0, 4, 3, 172, 27, 16, 10, 100, 62, 42]
abbrev dktX4_fits_0 : List UInt8 := dkwX4_fits_0 ++ dktX4_fits_1
theorem dksX4_fits_0 : cX4_fits.data.toList.drop 0 = dktX4_fits_0 := by decide +kernel
theorem dksX4_fits_1 : cX4_fits.data.toList.drop 23 = dktX4_fits_1 := dk_seg dksX4_fits_0 23 rfl rfl
theorem dksX4_fits_2 : cX4_fits.data.toList.drop 46 = dktX4_fits_2 := dk_seg dksX4_fits_1 23 rfl rfl
theorem dX4_fits_0 : decode cX4_fits 0 = .ok (.iload_n 1, 1) := dk_27 (dk_at dksX4_fits_0 0 rfl rfl)
theorem dX4_fits_1 : decode cX4_fits 1 = .ok (.bipush 10, 2) := dk_16 10 (dk_at dksX4_fits_0 1 rfl rfl)
theorem dX4_fits_3 : decode cX4_fits 3 = .ok (.if_icmp .ge 14, 3) := dk_162 0 14 (dk_at dksX4_fits_0 3 rfl rfl)
theorem dX4_fits_6 : decode cX4_fits 6 = .ok (.iload_n 1, 1) := dk_27 (dk_at dksX4_fits_0 6 rfl rfl)
theorem dX4_fits_7 : decode cX4_fits 7 = .ok (.iload_n 2, 1) := dk_28 (dk_at dksX4_fits_0 7 rfl rfl)
theorem dX4_fits_8 : decode cX4_fits 8 = .ok (.if_icmp .ne 7, 3) := dk_160 0 7 (dk_at dksX4_fits_0 8 rfl rfl)
theorem dX4_fits_11 : decode cX4_fits 11 = .ok (.iconst 1, 1) := dk_4 (dk_at dksX4_fits_0 11 rfl rfl)
theorem dX4_fits_12 : decode cX4_fits 12 = .ok (.goto 4, 3) := dk_167 0 4 (dk_at dksX4_fits_0 12 rfl rfl)
theorem dX4_fits_15 : decode cX4_fits 15 = .ok (.iconst 0, 1) := dk_3 (dk_at dksX4_fits_0 15 rfl rfl)
theorem dX4_fits_16 : decode cX4_fits 16 = .ok (.ireturn, 1) := dk_172 (dk_at dksX4_fits_0 16 rfl rfl)
theorem dX4_fits_17 : decode cX4_fits 17 = .ok (.iload_n 1, 1) := dk_27 (dk_at dksX4_fits_0 17 rfl rfl)
theorem dX4_fits_18 : decode cX4_fits 18 = .ok (.bipush 10, 2) := dk_16 10 (dk_at dksX4_fits_0 18 rfl rfl)
theorem dX4_fits_20 : decode cX4_fits 20 = .ok (.isub, 1) := dk_100 (dk_at dksX4_fits_0 20 rfl rfl)
theorem dX4_fits_21 : decode cX4_fits 21 = .ok (.istore_n 3, 1) := dk_62 (dk_at dksX4_fits_0 21 rfl rfl)
theorem dX4_fits_22 : decode cX4_fits 22 = .ok (.aload_n 0, 1) := dk_42 (dk_at dksX4_fits_0 22 rfl rfl)
theorem dX4_fits_23 : decode cX4_fits 23 = .ok (.getfield 36, 3) := dk_180 0 36 (dk_at dksX4_fits_1 0 rfl rfl)
theorem dX4_fits_26 : decode cX4_fits 26 = .ok (.iload_n 3, 1) := dk_29 (dk_at dksX4_fits_1 3 rfl rfl)
theorem dX4_fits_27 : decode cX4_fits 27 = .ok (.iaload, 1) := dk_46 (dk_at dksX4_fits_1 4 rfl rfl)
theorem dX4_fits_28 : decode cX4_fits 28 = .ok (.iconst (-1), 1) := dk_2 (dk_at dksX4_fits_1 5 rfl rfl)
theorem dX4_fits_29 : decode cX4_fits 29 = .ok (.if_icmp .ne 10, 3) := dk_160 0 10 (dk_at dksX4_fits_1 6 rfl rfl)
theorem dX4_fits_32 : decode cX4_fits 32 = .ok (.aload_n 0, 1) := dk_42 (dk_at dksX4_fits_1 9 rfl rfl)
theorem dX4_fits_33 : decode cX4_fits 33 = .ok (.getfield 36, 3) := dk_180 0 36 (dk_at dksX4_fits_1 10 rfl rfl)
theorem dX4_fits_36 : decode cX4_fits 36 = .ok (.iload_n 3, 1) := dk_29 (dk_at dksX4_fits_1 13 rfl rfl)
theorem dX4_fits_37 : decode cX4_fits 37 = .ok (.iload_n 2, 1) := dk_28 (dk_at dksX4_fits_1 14 rfl rfl)
theorem dX4_fits_38 : decode cX4_fits 38 = .ok (.iastore, 1) := dk_79 (dk_at dksX4_fits_1 15 rfl rfl)
theorem dX4_fits_39 : decode cX4_fits 39 = .ok (.aload_n 0, 1) := dk_42 (dk_at dksX4_fits_1 16 rfl rfl)
theorem dX4_fits_40 : decode cX4_fits 40 = .ok (.getfield 36, 3) := dk_180 0 36 (dk_at dksX4_fits_1 17 rfl rfl)
theorem dX4_fits_43 : decode cX4_fits 43 = .ok (.iload_n 3, 1) := dk_29 (dk_at dksX4_fits_1 20 rfl rfl)
theorem dX4_fits_44 : decode cX4_fits 44 = .ok (.iaload, 1) := dk_46 (dk_at dksX4_fits_1 21 rfl rfl)
theorem dX4_fits_45 : decode cX4_fits 45 = .ok (.iload_n 2, 1) := dk_28 (dk_at dksX4_fits_1 22 rfl rfl)
theorem dX4_fits_46 : decode cX4_fits 46 = .ok (.if_icmp .ne 7, 3) := dk_160 0 7 (dk_at dksX4_fits_2 0 rfl rfl)
theorem dX4_fits_49 : decode cX4_fits 49 = .ok (.iconst 1, 1) := dk_4 (dk_at dksX4_fits_2 3 rfl rfl)
theorem dX4_fits_50 : decode cX4_fits 50 = .ok (.goto 4, 3) := dk_167 0 4 (dk_at dksX4_fits_2 4 rfl rfl)
theorem dX4_fits_53 : decode cX4_fits 53 = .ok (.iconst 0, 1) := dk_3 (dk_at dksX4_fits_2 7 rfl rfl)
theorem dX4_fits_54 : decode cX4_fits 54 = .ok (.ireturn, 1) := dk_172 (dk_at dksX4_fits_2 8 rfl rfl)
abbrev cX4_person : ByteArray := prog_14_method_26_code
def yX4_person : MethodName := ⟨RX4, "person", "(I)I"⟩
def dkwX4_person_0 : List UInt8 := [27, 16, 10, 162, 0, 7, 27, 167, 0, 12, 42, 180, 0, 36, 27, 16, 10, 100, 46, 172]
abbrev dktX4_person_0 : List UInt8 := dkwX4_person_0 ++ []
theorem dksX4_person_0 : cX4_person.data.toList.drop 0 = dktX4_person_0 := by decide +kernel
theorem dX4_person_0 : decode cX4_person 0 = .ok (.iload_n 1, 1) := dk_27 (dk_at dksX4_person_0 0 rfl rfl)
theorem dX4_person_1 : decode cX4_person 1 = .ok (.bipush 10, 2) := dk_16 10 (dk_at dksX4_person_0 1 rfl rfl)
theorem dX4_person_3 : decode cX4_person 3 = .ok (.if_icmp .ge 7, 3) := dk_162 0 7 (dk_at dksX4_person_0 3 rfl rfl)
theorem dX4_person_6 : decode cX4_person 6 = .ok (.iload_n 1, 1) := dk_27 (dk_at dksX4_person_0 6 rfl rfl)
theorem dX4_person_7 : decode cX4_person 7 = .ok (.goto 12, 3) := dk_167 0 12 (dk_at dksX4_person_0 7 rfl rfl)
theorem dX4_person_10 : decode cX4_person 10 = .ok (.aload_n 0, 1) := dk_42 (dk_at dksX4_person_0 10 rfl rfl)
theorem dX4_person_11 : decode cX4_person 11 = .ok (.getfield 36, 3) := dk_180 0 36 (dk_at dksX4_person_0 11 rfl rfl)
theorem dX4_person_14 : decode cX4_person 14 = .ok (.iload_n 1, 1) := dk_27 (dk_at dksX4_person_0 14 rfl rfl)
theorem dX4_person_15 : decode cX4_person 15 = .ok (.bipush 10, 2) := dk_16 10 (dk_at dksX4_person_0 15 rfl rfl)
theorem dX4_person_17 : decode cX4_person 17 = .ok (.isub, 1) := dk_100 (dk_at dksX4_person_0 17 rfl rfl)
theorem dX4_person_18 : decode cX4_person 18 = .ok (.iaload, 1) := dk_46 (dk_at dksX4_person_0 18 rfl rfl)
theorem dX4_person_19 : decode cX4_person 19 = .ok (.ireturn, 1) := dk_172 (dk_at dksX4_person_0 19 rfl rfl)
abbrev cX4_agenda : ByteArray := prog_14_method_58_code
def yX4_agenda : MethodName := ⟨RX4, "agenda", "(II)I"⟩
def dkwX4_agenda_6 : List UInt8 := [46, 96, 46, 172, 42, 5, 182, 0, 101, 172]
abbrev dktX4_agenda_6 : List UInt8 := dkwX4_agenda_6 ++ []
def dkwX4_agenda_5 : List UInt8 := [180, 0, 55, 29, 46, 2, 160, 0, 7, 2, 167, 0, 17, 42, 180, 0, 7, 16, 95, 42, 180, 0, 55, 29]
abbrev dktX4_agenda_5 : List UInt8 := dkwX4_agenda_5 ++ dktX4_agenda_6
def dkwX4_agenda_4 : List UInt8 := [42, 180, 0, 49, 29, 46, 172, 42, 180, 0, 7, 16, 95, 42, 180, 0, 52, 29, 46, 96, 46, 172, 42]
abbrev dktX4_agenda_4 : List UInt8 := dkwX4_agenda_4 ++ dktX4_agenda_5
def dkwX4_agenda_3 : List UInt8 := [170, 0, 0, 0, 0, 0, 78, 0, 0, 0, 0, 0, 0, 0, 2, 0, 0, 0, 27, 0, 0, 0, 34, 0, 0, 0, 49]
abbrev dktX4_agenda_3 : List UInt8 := dkwX4_agenda_3 ++ dktX4_agenda_4
def dkwX4_agenda_2 : List UInt8 := [182, 0, 187, 62, 132, 4, 1, 167, 255, 241, 28]
abbrev dktX4_agenda_2 : List UInt8 := dkwX4_agenda_2 ++ dktX4_agenda_3
def dkwX4_agenda_1 : List UInt8 := [4, 182, 0, 101, 172, 42, 2, 182, 0, 187, 62, 3, 54, 4, 21, 4, 27, 162, 0, 15, 42, 29]
abbrev dktX4_agenda_1 : List UInt8 := dkwX4_agenda_1 ++ dktX4_agenda_2
def dkwX4_agenda_0 : List UInt8 := [42, 3, 181, 0, 84, 42, 182, 0, 197, 27, 3, 42, 180, 0, 178, 4, 100, 184, 0, 209, 154, 0, 9, 42]
abbrev dktX4_agenda_0 : List UInt8 := dkwX4_agenda_0 ++ dktX4_agenda_1
theorem dksX4_agenda_0 : cX4_agenda.data.toList.drop 0 = dktX4_agenda_0 := by decide +kernel
theorem dksX4_agenda_1 : cX4_agenda.data.toList.drop 24 = dktX4_agenda_1 := dk_seg dksX4_agenda_0 24 rfl rfl
theorem dksX4_agenda_2 : cX4_agenda.data.toList.drop 46 = dktX4_agenda_2 := dk_seg dksX4_agenda_1 22 rfl rfl
theorem dksX4_agenda_3 : cX4_agenda.data.toList.drop 57 = dktX4_agenda_3 := dk_seg dksX4_agenda_2 11 rfl rfl
theorem dksX4_agenda_4 : cX4_agenda.data.toList.drop 84 = dktX4_agenda_4 := dk_seg dksX4_agenda_3 27 rfl rfl
theorem dksX4_agenda_5 : cX4_agenda.data.toList.drop 107 = dktX4_agenda_5 := dk_seg dksX4_agenda_4 23 rfl rfl
theorem dksX4_agenda_6 : cX4_agenda.data.toList.drop 131 = dktX4_agenda_6 := dk_seg dksX4_agenda_5 24 rfl rfl
theorem dX4_agenda_0 : decode cX4_agenda 0 = .ok (.aload_n 0, 1) := dk_42 (dk_at dksX4_agenda_0 0 rfl rfl)
theorem dX4_agenda_1 : decode cX4_agenda 1 = .ok (.iconst 0, 1) := dk_3 (dk_at dksX4_agenda_0 1 rfl rfl)
theorem dX4_agenda_2 : decode cX4_agenda 2 = .ok (.putfield 84, 3) := dk_181 0 84 (dk_at dksX4_agenda_0 2 rfl rfl)
theorem dX4_agenda_5 : decode cX4_agenda 5 = .ok (.aload_n 0, 1) := dk_42 (dk_at dksX4_agenda_0 5 rfl rfl)
theorem dX4_agenda_6 : decode cX4_agenda 6 = .ok (.invokevirtual 197, 3) := dk_182 0 197 (dk_at dksX4_agenda_0 6 rfl rfl)
theorem dX4_agenda_9 : decode cX4_agenda 9 = .ok (.iload_n 1, 1) := dk_27 (dk_at dksX4_agenda_0 9 rfl rfl)
theorem dX4_agenda_10 : decode cX4_agenda 10 = .ok (.iconst 0, 1) := dk_3 (dk_at dksX4_agenda_0 10 rfl rfl)
theorem dX4_agenda_11 : decode cX4_agenda 11 = .ok (.aload_n 0, 1) := dk_42 (dk_at dksX4_agenda_0 11 rfl rfl)
theorem dX4_agenda_12 : decode cX4_agenda 12 = .ok (.getfield 178, 3) := dk_180 0 178 (dk_at dksX4_agenda_0 12 rfl rfl)
theorem dX4_agenda_15 : decode cX4_agenda 15 = .ok (.iconst 1, 1) := dk_4 (dk_at dksX4_agenda_0 15 rfl rfl)
theorem dX4_agenda_16 : decode cX4_agenda 16 = .ok (.isub, 1) := dk_100 (dk_at dksX4_agenda_0 16 rfl rfl)
theorem dX4_agenda_17 : decode cX4_agenda 17 = .ok (.invokestatic 209, 3) := dk_184 0 209 (dk_at dksX4_agenda_0 17 rfl rfl)
theorem dX4_agenda_20 : decode cX4_agenda 20 = .ok (.ifCond .ne 9, 3) := dk_154 0 9 (dk_at dksX4_agenda_0 20 rfl rfl)
theorem dX4_agenda_23 : decode cX4_agenda 23 = .ok (.aload_n 0, 1) := dk_42 (dk_at dksX4_agenda_0 23 rfl rfl)
theorem dX4_agenda_24 : decode cX4_agenda 24 = .ok (.iconst 1, 1) := dk_4 (dk_at dksX4_agenda_1 0 rfl rfl)
theorem dX4_agenda_25 : decode cX4_agenda 25 = .ok (.invokevirtual 101, 3) := dk_182 0 101 (dk_at dksX4_agenda_1 1 rfl rfl)
theorem dX4_agenda_28 : decode cX4_agenda 28 = .ok (.ireturn, 1) := dk_172 (dk_at dksX4_agenda_1 4 rfl rfl)
theorem dX4_agenda_29 : decode cX4_agenda 29 = .ok (.aload_n 0, 1) := dk_42 (dk_at dksX4_agenda_1 5 rfl rfl)
theorem dX4_agenda_30 : decode cX4_agenda 30 = .ok (.iconst (-1), 1) := dk_2 (dk_at dksX4_agenda_1 6 rfl rfl)
theorem dX4_agenda_31 : decode cX4_agenda 31 = .ok (.invokevirtual 187, 3) := dk_182 0 187 (dk_at dksX4_agenda_1 7 rfl rfl)
theorem dX4_agenda_34 : decode cX4_agenda 34 = .ok (.istore_n 3, 1) := dk_62 (dk_at dksX4_agenda_1 10 rfl rfl)
theorem dX4_agenda_35 : decode cX4_agenda 35 = .ok (.iconst 0, 1) := dk_3 (dk_at dksX4_agenda_1 11 rfl rfl)
theorem dX4_agenda_36 : decode cX4_agenda 36 = .ok (.istore 4, 2) := dk_54 4 (dk_at dksX4_agenda_1 12 rfl rfl)
theorem dX4_agenda_38 : decode cX4_agenda 38 = .ok (.iload 4, 2) := dk_21 4 (dk_at dksX4_agenda_1 14 rfl rfl)
theorem dX4_agenda_40 : decode cX4_agenda 40 = .ok (.iload_n 1, 1) := dk_27 (dk_at dksX4_agenda_1 16 rfl rfl)
theorem dX4_agenda_41 : decode cX4_agenda 41 = .ok (.if_icmp .ge 15, 3) := dk_162 0 15 (dk_at dksX4_agenda_1 17 rfl rfl)
theorem dX4_agenda_44 : decode cX4_agenda 44 = .ok (.aload_n 0, 1) := dk_42 (dk_at dksX4_agenda_1 20 rfl rfl)
theorem dX4_agenda_45 : decode cX4_agenda 45 = .ok (.iload_n 3, 1) := dk_29 (dk_at dksX4_agenda_1 21 rfl rfl)
theorem dX4_agenda_46 : decode cX4_agenda 46 = .ok (.invokevirtual 187, 3) := dk_182 0 187 (dk_at dksX4_agenda_2 0 rfl rfl)
theorem dX4_agenda_49 : decode cX4_agenda 49 = .ok (.istore_n 3, 1) := dk_62 (dk_at dksX4_agenda_2 3 rfl rfl)
theorem dX4_agenda_50 : decode cX4_agenda 50 = .ok (.iinc 4 1, 3) := dk_132 4 1 (dk_at dksX4_agenda_2 4 rfl rfl)
theorem dX4_agenda_53 : decode cX4_agenda 53 = .ok (.goto (-15), 3) := dk_167 255 241 (dk_at dksX4_agenda_2 7 rfl rfl)
theorem dX4_agenda_56 : decode cX4_agenda 56 = .ok (.iload_n 2, 1) := dk_28 (dk_at dksX4_agenda_2 10 rfl rfl)
theorem dX4_agenda_57 : decode cX4_agenda 57 = .ok (.tableswitch 78 0 2 #[27, 34, 49], 27) := by decide +kernel
theorem dX4_agenda_84 : decode cX4_agenda 84 = .ok (.aload_n 0, 1) := dk_42 (dk_at dksX4_agenda_4 0 rfl rfl)
theorem dX4_agenda_85 : decode cX4_agenda 85 = .ok (.getfield 49, 3) := dk_180 0 49 (dk_at dksX4_agenda_4 1 rfl rfl)
theorem dX4_agenda_88 : decode cX4_agenda 88 = .ok (.iload_n 3, 1) := dk_29 (dk_at dksX4_agenda_4 4 rfl rfl)
theorem dX4_agenda_89 : decode cX4_agenda 89 = .ok (.iaload, 1) := dk_46 (dk_at dksX4_agenda_4 5 rfl rfl)
theorem dX4_agenda_90 : decode cX4_agenda 90 = .ok (.ireturn, 1) := dk_172 (dk_at dksX4_agenda_4 6 rfl rfl)
theorem dX4_agenda_91 : decode cX4_agenda 91 = .ok (.aload_n 0, 1) := dk_42 (dk_at dksX4_agenda_4 7 rfl rfl)
theorem dX4_agenda_92 : decode cX4_agenda 92 = .ok (.getfield 7, 3) := dk_180 0 7 (dk_at dksX4_agenda_4 8 rfl rfl)
theorem dX4_agenda_95 : decode cX4_agenda 95 = .ok (.bipush 95, 2) := dk_16 95 (dk_at dksX4_agenda_4 11 rfl rfl)
theorem dX4_agenda_97 : decode cX4_agenda 97 = .ok (.aload_n 0, 1) := dk_42 (dk_at dksX4_agenda_4 13 rfl rfl)
theorem dX4_agenda_98 : decode cX4_agenda 98 = .ok (.getfield 52, 3) := dk_180 0 52 (dk_at dksX4_agenda_4 14 rfl rfl)
theorem dX4_agenda_101 : decode cX4_agenda 101 = .ok (.iload_n 3, 1) := dk_29 (dk_at dksX4_agenda_4 17 rfl rfl)
theorem dX4_agenda_102 : decode cX4_agenda 102 = .ok (.iaload, 1) := dk_46 (dk_at dksX4_agenda_4 18 rfl rfl)
theorem dX4_agenda_103 : decode cX4_agenda 103 = .ok (.iadd, 1) := dk_96 (dk_at dksX4_agenda_4 19 rfl rfl)
theorem dX4_agenda_104 : decode cX4_agenda 104 = .ok (.iaload, 1) := dk_46 (dk_at dksX4_agenda_4 20 rfl rfl)
theorem dX4_agenda_105 : decode cX4_agenda 105 = .ok (.ireturn, 1) := dk_172 (dk_at dksX4_agenda_4 21 rfl rfl)
theorem dX4_agenda_106 : decode cX4_agenda 106 = .ok (.aload_n 0, 1) := dk_42 (dk_at dksX4_agenda_4 22 rfl rfl)
theorem dX4_agenda_107 : decode cX4_agenda 107 = .ok (.getfield 55, 3) := dk_180 0 55 (dk_at dksX4_agenda_5 0 rfl rfl)
theorem dX4_agenda_110 : decode cX4_agenda 110 = .ok (.iload_n 3, 1) := dk_29 (dk_at dksX4_agenda_5 3 rfl rfl)
theorem dX4_agenda_111 : decode cX4_agenda 111 = .ok (.iaload, 1) := dk_46 (dk_at dksX4_agenda_5 4 rfl rfl)
theorem dX4_agenda_112 : decode cX4_agenda 112 = .ok (.iconst (-1), 1) := dk_2 (dk_at dksX4_agenda_5 5 rfl rfl)
theorem dX4_agenda_113 : decode cX4_agenda 113 = .ok (.if_icmp .ne 7, 3) := dk_160 0 7 (dk_at dksX4_agenda_5 6 rfl rfl)
theorem dX4_agenda_116 : decode cX4_agenda 116 = .ok (.iconst (-1), 1) := dk_2 (dk_at dksX4_agenda_5 9 rfl rfl)
theorem dX4_agenda_117 : decode cX4_agenda 117 = .ok (.goto 17, 3) := dk_167 0 17 (dk_at dksX4_agenda_5 10 rfl rfl)
theorem dX4_agenda_120 : decode cX4_agenda 120 = .ok (.aload_n 0, 1) := dk_42 (dk_at dksX4_agenda_5 13 rfl rfl)
theorem dX4_agenda_121 : decode cX4_agenda 121 = .ok (.getfield 7, 3) := dk_180 0 7 (dk_at dksX4_agenda_5 14 rfl rfl)
theorem dX4_agenda_124 : decode cX4_agenda 124 = .ok (.bipush 95, 2) := dk_16 95 (dk_at dksX4_agenda_5 17 rfl rfl)
theorem dX4_agenda_126 : decode cX4_agenda 126 = .ok (.aload_n 0, 1) := dk_42 (dk_at dksX4_agenda_5 19 rfl rfl)
theorem dX4_agenda_127 : decode cX4_agenda 127 = .ok (.getfield 55, 3) := dk_180 0 55 (dk_at dksX4_agenda_5 20 rfl rfl)
theorem dX4_agenda_130 : decode cX4_agenda 130 = .ok (.iload_n 3, 1) := dk_29 (dk_at dksX4_agenda_5 23 rfl rfl)
theorem dX4_agenda_131 : decode cX4_agenda 131 = .ok (.iaload, 1) := dk_46 (dk_at dksX4_agenda_6 0 rfl rfl)
theorem dX4_agenda_132 : decode cX4_agenda 132 = .ok (.iadd, 1) := dk_96 (dk_at dksX4_agenda_6 1 rfl rfl)
theorem dX4_agenda_133 : decode cX4_agenda 133 = .ok (.iaload, 1) := dk_46 (dk_at dksX4_agenda_6 2 rfl rfl)
theorem dX4_agenda_134 : decode cX4_agenda 134 = .ok (.ireturn, 1) := dk_172 (dk_at dksX4_agenda_6 3 rfl rfl)
theorem dX4_agenda_135 : decode cX4_agenda 135 = .ok (.aload_n 0, 1) := dk_42 (dk_at dksX4_agenda_6 4 rfl rfl)
theorem dX4_agenda_136 : decode cX4_agenda 136 = .ok (.iconst 2, 1) := dk_5 (dk_at dksX4_agenda_6 5 rfl rfl)
theorem dX4_agenda_137 : decode cX4_agenda 137 = .ok (.invokevirtual 101, 3) := dk_182 0 101 (dk_at dksX4_agenda_6 6 rfl rfl)
theorem dX4_agenda_140 : decode cX4_agenda 140 = .ok (.ireturn, 1) := dk_172 (dk_at dksX4_agenda_6 9 rfl rfl)
abbrev cX4_behind : ByteArray := prog_14_method_35_code
def yX4_behind : MethodName := ⟨RX4, "behind", "(I)I"⟩
def dkwX4_behind_2 : List UInt8 := [167, 255, 215, 28, 172]
abbrev dktX4_behind_2 : List UInt8 := dkwX4_behind_2 ++ []
def dkwX4_behind_1 : List UInt8 := [153, 0, 19, 28, 2, 159, 0, 12, 42, 29, 28, 182, 0, 184, 153, 0, 5, 29, 61, 132, 3, 1]
abbrev dktX4_behind_1 : List UInt8 := dkwX4_behind_1 ++ dktX4_behind_2
def dkwX4_behind_0 : List UInt8 := [2, 61, 3, 62, 29, 42, 180, 0, 178, 162, 0, 39, 27, 2, 159, 0, 12, 42, 27, 29, 182, 0, 184]
abbrev dktX4_behind_0 : List UInt8 := dkwX4_behind_0 ++ dktX4_behind_1
theorem dksX4_behind_0 : cX4_behind.data.toList.drop 0 = dktX4_behind_0 := by decide +kernel
theorem dksX4_behind_1 : cX4_behind.data.toList.drop 23 = dktX4_behind_1 := dk_seg dksX4_behind_0 23 rfl rfl
theorem dksX4_behind_2 : cX4_behind.data.toList.drop 45 = dktX4_behind_2 := dk_seg dksX4_behind_1 22 rfl rfl
theorem dX4_behind_0 : decode cX4_behind 0 = .ok (.iconst (-1), 1) := dk_2 (dk_at dksX4_behind_0 0 rfl rfl)
theorem dX4_behind_1 : decode cX4_behind 1 = .ok (.istore_n 2, 1) := dk_61 (dk_at dksX4_behind_0 1 rfl rfl)
theorem dX4_behind_2 : decode cX4_behind 2 = .ok (.iconst 0, 1) := dk_3 (dk_at dksX4_behind_0 2 rfl rfl)
theorem dX4_behind_3 : decode cX4_behind 3 = .ok (.istore_n 3, 1) := dk_62 (dk_at dksX4_behind_0 3 rfl rfl)
theorem dX4_behind_4 : decode cX4_behind 4 = .ok (.iload_n 3, 1) := dk_29 (dk_at dksX4_behind_0 4 rfl rfl)
theorem dX4_behind_5 : decode cX4_behind 5 = .ok (.aload_n 0, 1) := dk_42 (dk_at dksX4_behind_0 5 rfl rfl)
theorem dX4_behind_6 : decode cX4_behind 6 = .ok (.getfield 178, 3) := dk_180 0 178 (dk_at dksX4_behind_0 6 rfl rfl)
theorem dX4_behind_9 : decode cX4_behind 9 = .ok (.if_icmp .ge 39, 3) := dk_162 0 39 (dk_at dksX4_behind_0 9 rfl rfl)
theorem dX4_behind_12 : decode cX4_behind 12 = .ok (.iload_n 1, 1) := dk_27 (dk_at dksX4_behind_0 12 rfl rfl)
theorem dX4_behind_13 : decode cX4_behind 13 = .ok (.iconst (-1), 1) := dk_2 (dk_at dksX4_behind_0 13 rfl rfl)
theorem dX4_behind_14 : decode cX4_behind 14 = .ok (.if_icmp .eq 12, 3) := dk_159 0 12 (dk_at dksX4_behind_0 14 rfl rfl)
theorem dX4_behind_17 : decode cX4_behind 17 = .ok (.aload_n 0, 1) := dk_42 (dk_at dksX4_behind_0 17 rfl rfl)
theorem dX4_behind_18 : decode cX4_behind 18 = .ok (.iload_n 1, 1) := dk_27 (dk_at dksX4_behind_0 18 rfl rfl)
theorem dX4_behind_19 : decode cX4_behind 19 = .ok (.iload_n 3, 1) := dk_29 (dk_at dksX4_behind_0 19 rfl rfl)
theorem dX4_behind_20 : decode cX4_behind 20 = .ok (.invokevirtual 184, 3) := dk_182 0 184 (dk_at dksX4_behind_0 20 rfl rfl)
theorem dX4_behind_23 : decode cX4_behind 23 = .ok (.ifCond .eq 19, 3) := dk_153 0 19 (dk_at dksX4_behind_1 0 rfl rfl)
theorem dX4_behind_26 : decode cX4_behind 26 = .ok (.iload_n 2, 1) := dk_28 (dk_at dksX4_behind_1 3 rfl rfl)
theorem dX4_behind_27 : decode cX4_behind 27 = .ok (.iconst (-1), 1) := dk_2 (dk_at dksX4_behind_1 4 rfl rfl)
theorem dX4_behind_28 : decode cX4_behind 28 = .ok (.if_icmp .eq 12, 3) := dk_159 0 12 (dk_at dksX4_behind_1 5 rfl rfl)
theorem dX4_behind_31 : decode cX4_behind 31 = .ok (.aload_n 0, 1) := dk_42 (dk_at dksX4_behind_1 8 rfl rfl)
theorem dX4_behind_32 : decode cX4_behind 32 = .ok (.iload_n 3, 1) := dk_29 (dk_at dksX4_behind_1 9 rfl rfl)
theorem dX4_behind_33 : decode cX4_behind 33 = .ok (.iload_n 2, 1) := dk_28 (dk_at dksX4_behind_1 10 rfl rfl)
theorem dX4_behind_34 : decode cX4_behind 34 = .ok (.invokevirtual 184, 3) := dk_182 0 184 (dk_at dksX4_behind_1 11 rfl rfl)
theorem dX4_behind_37 : decode cX4_behind 37 = .ok (.ifCond .eq 5, 3) := dk_153 0 5 (dk_at dksX4_behind_1 14 rfl rfl)
theorem dX4_behind_40 : decode cX4_behind 40 = .ok (.iload_n 3, 1) := dk_29 (dk_at dksX4_behind_1 17 rfl rfl)
theorem dX4_behind_41 : decode cX4_behind 41 = .ok (.istore_n 2, 1) := dk_61 (dk_at dksX4_behind_1 18 rfl rfl)
theorem dX4_behind_42 : decode cX4_behind 42 = .ok (.iinc 3 1, 3) := dk_132 3 1 (dk_at dksX4_behind_1 19 rfl rfl)
theorem dX4_behind_45 : decode cX4_behind 45 = .ok (.goto (-41), 3) := dk_167 255 215 (dk_at dksX4_behind_2 0 rfl rfl)
theorem dX4_behind_48 : decode cX4_behind 48 = .ok (.iload_n 2, 1) := dk_28 (dk_at dksX4_behind_2 3 rfl rfl)
theorem dX4_behind_49 : decode cX4_behind 49 = .ok (.ireturn, 1) := dk_172 (dk_at dksX4_behind_2 4 rfl rfl)
abbrev cX4_isAhead : ByteArray := prog_14_method_34_code
def yX4_isAhead : MethodName := ⟨RX4, "isAhead", "(II)Z"⟩
def dkwX4_isAhead_6 : List UInt8 := [3, 172, 42, 180, 0, 55, 27, 46, 42, 180, 0, 55, 28, 46, 162, 0, 7, 4, 167, 0, 4, 3, 172]
abbrev dktX4_isAhead_6 : List UInt8 := dkwX4_isAhead_6 ++ []
def dkwX4_isAhead_5 : List UInt8 := [28, 46, 159, 0, 24, 42, 180, 0, 52, 27, 46, 42, 180, 0, 52, 28, 46, 162, 0, 7, 4, 167, 0, 4]
abbrev dktX4_isAhead_5 : List UInt8 := dkwX4_isAhead_5 ++ dktX4_isAhead_6
def dkwX4_isAhead_4 : List UInt8 := [180, 0, 49, 28, 46, 162, 0, 7, 4, 167, 0, 4, 3, 172, 42, 180, 0, 52, 27, 46, 42, 180, 0, 52]
abbrev dktX4_isAhead_4 : List UInt8 := dkwX4_isAhead_4 ++ dktX4_isAhead_5
def dkwX4_isAhead_3 : List UInt8 := [172, 42, 180, 0, 49, 27, 46, 42, 180, 0, 49, 28, 46, 159, 0, 24, 42, 180, 0, 49, 27, 46, 42]
abbrev dktX4_isAhead_3 : List UInt8 := dkwX4_isAhead_3 ++ dktX4_isAhead_4
def dkwX4_isAhead_2 : List UInt8 := [182, 0, 181, 159, 0, 22, 42, 27, 182, 0, 181, 42, 28, 182, 0, 181, 164, 0, 7, 4, 167, 0, 4, 3]
abbrev dktX4_isAhead_2 : List UInt8 := dkwX4_isAhead_2 ++ dktX4_isAhead_3
def dkwX4_isAhead_1 : List UInt8 := [100, 62, 29, 153, 0, 13, 29, 158, 0, 7, 4, 167, 0, 4, 3, 172, 42, 27, 182, 0, 181, 42, 28]
abbrev dktX4_isAhead_1 : List UInt8 := dkwX4_isAhead_1 ++ dktX4_isAhead_2
def dkwX4_isAhead_0 : List UInt8 := [42, 42, 180, 0, 49, 27, 46, 16, 10, 182, 0, 149, 42, 42, 180, 0, 49, 28, 46, 16, 10, 182, 0, 149]
abbrev dktX4_isAhead_0 : List UInt8 := dkwX4_isAhead_0 ++ dktX4_isAhead_1
theorem dksX4_isAhead_0 : cX4_isAhead.data.toList.drop 0 = dktX4_isAhead_0 := by decide +kernel
theorem dksX4_isAhead_1 : cX4_isAhead.data.toList.drop 24 = dktX4_isAhead_1 := dk_seg dksX4_isAhead_0 24 rfl rfl
theorem dksX4_isAhead_2 : cX4_isAhead.data.toList.drop 47 = dktX4_isAhead_2 := dk_seg dksX4_isAhead_1 23 rfl rfl
theorem dksX4_isAhead_3 : cX4_isAhead.data.toList.drop 71 = dktX4_isAhead_3 := dk_seg dksX4_isAhead_2 24 rfl rfl
theorem dksX4_isAhead_4 : cX4_isAhead.data.toList.drop 94 = dktX4_isAhead_4 := dk_seg dksX4_isAhead_3 23 rfl rfl
theorem dksX4_isAhead_5 : cX4_isAhead.data.toList.drop 118 = dktX4_isAhead_5 := dk_seg dksX4_isAhead_4 24 rfl rfl
theorem dksX4_isAhead_6 : cX4_isAhead.data.toList.drop 142 = dktX4_isAhead_6 := dk_seg dksX4_isAhead_5 24 rfl rfl
theorem dX4_isAhead_0 : decode cX4_isAhead 0 = .ok (.aload_n 0, 1) := dk_42 (dk_at dksX4_isAhead_0 0 rfl rfl)
theorem dX4_isAhead_1 : decode cX4_isAhead 1 = .ok (.aload_n 0, 1) := dk_42 (dk_at dksX4_isAhead_0 1 rfl rfl)
theorem dX4_isAhead_2 : decode cX4_isAhead 2 = .ok (.getfield 49, 3) := dk_180 0 49 (dk_at dksX4_isAhead_0 2 rfl rfl)
theorem dX4_isAhead_5 : decode cX4_isAhead 5 = .ok (.iload_n 1, 1) := dk_27 (dk_at dksX4_isAhead_0 5 rfl rfl)
theorem dX4_isAhead_6 : decode cX4_isAhead 6 = .ok (.iaload, 1) := dk_46 (dk_at dksX4_isAhead_0 6 rfl rfl)
theorem dX4_isAhead_7 : decode cX4_isAhead 7 = .ok (.bipush 10, 2) := dk_16 10 (dk_at dksX4_isAhead_0 7 rfl rfl)
theorem dX4_isAhead_9 : decode cX4_isAhead 9 = .ok (.invokevirtual 149, 3) := dk_182 0 149 (dk_at dksX4_isAhead_0 9 rfl rfl)
theorem dX4_isAhead_12 : decode cX4_isAhead 12 = .ok (.aload_n 0, 1) := dk_42 (dk_at dksX4_isAhead_0 12 rfl rfl)
theorem dX4_isAhead_13 : decode cX4_isAhead 13 = .ok (.aload_n 0, 1) := dk_42 (dk_at dksX4_isAhead_0 13 rfl rfl)
theorem dX4_isAhead_14 : decode cX4_isAhead 14 = .ok (.getfield 49, 3) := dk_180 0 49 (dk_at dksX4_isAhead_0 14 rfl rfl)
theorem dX4_isAhead_17 : decode cX4_isAhead 17 = .ok (.iload_n 2, 1) := dk_28 (dk_at dksX4_isAhead_0 17 rfl rfl)
theorem dX4_isAhead_18 : decode cX4_isAhead 18 = .ok (.iaload, 1) := dk_46 (dk_at dksX4_isAhead_0 18 rfl rfl)
theorem dX4_isAhead_19 : decode cX4_isAhead 19 = .ok (.bipush 10, 2) := dk_16 10 (dk_at dksX4_isAhead_0 19 rfl rfl)
theorem dX4_isAhead_21 : decode cX4_isAhead 21 = .ok (.invokevirtual 149, 3) := dk_182 0 149 (dk_at dksX4_isAhead_0 21 rfl rfl)
theorem dX4_isAhead_24 : decode cX4_isAhead 24 = .ok (.isub, 1) := dk_100 (dk_at dksX4_isAhead_1 0 rfl rfl)
theorem dX4_isAhead_25 : decode cX4_isAhead 25 = .ok (.istore_n 3, 1) := dk_62 (dk_at dksX4_isAhead_1 1 rfl rfl)
theorem dX4_isAhead_26 : decode cX4_isAhead 26 = .ok (.iload_n 3, 1) := dk_29 (dk_at dksX4_isAhead_1 2 rfl rfl)
theorem dX4_isAhead_27 : decode cX4_isAhead 27 = .ok (.ifCond .eq 13, 3) := dk_153 0 13 (dk_at dksX4_isAhead_1 3 rfl rfl)
theorem dX4_isAhead_30 : decode cX4_isAhead 30 = .ok (.iload_n 3, 1) := dk_29 (dk_at dksX4_isAhead_1 6 rfl rfl)
theorem dX4_isAhead_31 : decode cX4_isAhead 31 = .ok (.ifCond .le 7, 3) := dk_158 0 7 (dk_at dksX4_isAhead_1 7 rfl rfl)
theorem dX4_isAhead_34 : decode cX4_isAhead 34 = .ok (.iconst 1, 1) := dk_4 (dk_at dksX4_isAhead_1 10 rfl rfl)
theorem dX4_isAhead_35 : decode cX4_isAhead 35 = .ok (.goto 4, 3) := dk_167 0 4 (dk_at dksX4_isAhead_1 11 rfl rfl)
theorem dX4_isAhead_38 : decode cX4_isAhead 38 = .ok (.iconst 0, 1) := dk_3 (dk_at dksX4_isAhead_1 14 rfl rfl)
theorem dX4_isAhead_39 : decode cX4_isAhead 39 = .ok (.ireturn, 1) := dk_172 (dk_at dksX4_isAhead_1 15 rfl rfl)
theorem dX4_isAhead_40 : decode cX4_isAhead 40 = .ok (.aload_n 0, 1) := dk_42 (dk_at dksX4_isAhead_1 16 rfl rfl)
theorem dX4_isAhead_41 : decode cX4_isAhead 41 = .ok (.iload_n 1, 1) := dk_27 (dk_at dksX4_isAhead_1 17 rfl rfl)
theorem dX4_isAhead_42 : decode cX4_isAhead 42 = .ok (.invokevirtual 181, 3) := dk_182 0 181 (dk_at dksX4_isAhead_1 18 rfl rfl)
theorem dX4_isAhead_45 : decode cX4_isAhead 45 = .ok (.aload_n 0, 1) := dk_42 (dk_at dksX4_isAhead_1 21 rfl rfl)
theorem dX4_isAhead_46 : decode cX4_isAhead 46 = .ok (.iload_n 2, 1) := dk_28 (dk_at dksX4_isAhead_1 22 rfl rfl)
theorem dX4_isAhead_47 : decode cX4_isAhead 47 = .ok (.invokevirtual 181, 3) := dk_182 0 181 (dk_at dksX4_isAhead_2 0 rfl rfl)
theorem dX4_isAhead_50 : decode cX4_isAhead 50 = .ok (.if_icmp .eq 22, 3) := dk_159 0 22 (dk_at dksX4_isAhead_2 3 rfl rfl)
theorem dX4_isAhead_53 : decode cX4_isAhead 53 = .ok (.aload_n 0, 1) := dk_42 (dk_at dksX4_isAhead_2 6 rfl rfl)
theorem dX4_isAhead_54 : decode cX4_isAhead 54 = .ok (.iload_n 1, 1) := dk_27 (dk_at dksX4_isAhead_2 7 rfl rfl)
theorem dX4_isAhead_55 : decode cX4_isAhead 55 = .ok (.invokevirtual 181, 3) := dk_182 0 181 (dk_at dksX4_isAhead_2 8 rfl rfl)
theorem dX4_isAhead_58 : decode cX4_isAhead 58 = .ok (.aload_n 0, 1) := dk_42 (dk_at dksX4_isAhead_2 11 rfl rfl)
theorem dX4_isAhead_59 : decode cX4_isAhead 59 = .ok (.iload_n 2, 1) := dk_28 (dk_at dksX4_isAhead_2 12 rfl rfl)
theorem dX4_isAhead_60 : decode cX4_isAhead 60 = .ok (.invokevirtual 181, 3) := dk_182 0 181 (dk_at dksX4_isAhead_2 13 rfl rfl)
theorem dX4_isAhead_63 : decode cX4_isAhead 63 = .ok (.if_icmp .le 7, 3) := dk_164 0 7 (dk_at dksX4_isAhead_2 16 rfl rfl)
theorem dX4_isAhead_66 : decode cX4_isAhead 66 = .ok (.iconst 1, 1) := dk_4 (dk_at dksX4_isAhead_2 19 rfl rfl)
theorem dX4_isAhead_67 : decode cX4_isAhead 67 = .ok (.goto 4, 3) := dk_167 0 4 (dk_at dksX4_isAhead_2 20 rfl rfl)
theorem dX4_isAhead_70 : decode cX4_isAhead 70 = .ok (.iconst 0, 1) := dk_3 (dk_at dksX4_isAhead_2 23 rfl rfl)
theorem dX4_isAhead_71 : decode cX4_isAhead 71 = .ok (.ireturn, 1) := dk_172 (dk_at dksX4_isAhead_3 0 rfl rfl)
theorem dX4_isAhead_72 : decode cX4_isAhead 72 = .ok (.aload_n 0, 1) := dk_42 (dk_at dksX4_isAhead_3 1 rfl rfl)
theorem dX4_isAhead_73 : decode cX4_isAhead 73 = .ok (.getfield 49, 3) := dk_180 0 49 (dk_at dksX4_isAhead_3 2 rfl rfl)
theorem dX4_isAhead_76 : decode cX4_isAhead 76 = .ok (.iload_n 1, 1) := dk_27 (dk_at dksX4_isAhead_3 5 rfl rfl)
theorem dX4_isAhead_77 : decode cX4_isAhead 77 = .ok (.iaload, 1) := dk_46 (dk_at dksX4_isAhead_3 6 rfl rfl)
theorem dX4_isAhead_78 : decode cX4_isAhead 78 = .ok (.aload_n 0, 1) := dk_42 (dk_at dksX4_isAhead_3 7 rfl rfl)
theorem dX4_isAhead_79 : decode cX4_isAhead 79 = .ok (.getfield 49, 3) := dk_180 0 49 (dk_at dksX4_isAhead_3 8 rfl rfl)
theorem dX4_isAhead_82 : decode cX4_isAhead 82 = .ok (.iload_n 2, 1) := dk_28 (dk_at dksX4_isAhead_3 11 rfl rfl)
theorem dX4_isAhead_83 : decode cX4_isAhead 83 = .ok (.iaload, 1) := dk_46 (dk_at dksX4_isAhead_3 12 rfl rfl)
theorem dX4_isAhead_84 : decode cX4_isAhead 84 = .ok (.if_icmp .eq 24, 3) := dk_159 0 24 (dk_at dksX4_isAhead_3 13 rfl rfl)
theorem dX4_isAhead_87 : decode cX4_isAhead 87 = .ok (.aload_n 0, 1) := dk_42 (dk_at dksX4_isAhead_3 16 rfl rfl)
theorem dX4_isAhead_88 : decode cX4_isAhead 88 = .ok (.getfield 49, 3) := dk_180 0 49 (dk_at dksX4_isAhead_3 17 rfl rfl)
theorem dX4_isAhead_91 : decode cX4_isAhead 91 = .ok (.iload_n 1, 1) := dk_27 (dk_at dksX4_isAhead_3 20 rfl rfl)
theorem dX4_isAhead_92 : decode cX4_isAhead 92 = .ok (.iaload, 1) := dk_46 (dk_at dksX4_isAhead_3 21 rfl rfl)
theorem dX4_isAhead_93 : decode cX4_isAhead 93 = .ok (.aload_n 0, 1) := dk_42 (dk_at dksX4_isAhead_3 22 rfl rfl)
theorem dX4_isAhead_94 : decode cX4_isAhead 94 = .ok (.getfield 49, 3) := dk_180 0 49 (dk_at dksX4_isAhead_4 0 rfl rfl)
theorem dX4_isAhead_97 : decode cX4_isAhead 97 = .ok (.iload_n 2, 1) := dk_28 (dk_at dksX4_isAhead_4 3 rfl rfl)
theorem dX4_isAhead_98 : decode cX4_isAhead 98 = .ok (.iaload, 1) := dk_46 (dk_at dksX4_isAhead_4 4 rfl rfl)
theorem dX4_isAhead_99 : decode cX4_isAhead 99 = .ok (.if_icmp .ge 7, 3) := dk_162 0 7 (dk_at dksX4_isAhead_4 5 rfl rfl)
theorem dX4_isAhead_102 : decode cX4_isAhead 102 = .ok (.iconst 1, 1) := dk_4 (dk_at dksX4_isAhead_4 8 rfl rfl)
theorem dX4_isAhead_103 : decode cX4_isAhead 103 = .ok (.goto 4, 3) := dk_167 0 4 (dk_at dksX4_isAhead_4 9 rfl rfl)
theorem dX4_isAhead_106 : decode cX4_isAhead 106 = .ok (.iconst 0, 1) := dk_3 (dk_at dksX4_isAhead_4 12 rfl rfl)
theorem dX4_isAhead_107 : decode cX4_isAhead 107 = .ok (.ireturn, 1) := dk_172 (dk_at dksX4_isAhead_4 13 rfl rfl)
theorem dX4_isAhead_108 : decode cX4_isAhead 108 = .ok (.aload_n 0, 1) := dk_42 (dk_at dksX4_isAhead_4 14 rfl rfl)
theorem dX4_isAhead_109 : decode cX4_isAhead 109 = .ok (.getfield 52, 3) := dk_180 0 52 (dk_at dksX4_isAhead_4 15 rfl rfl)
theorem dX4_isAhead_112 : decode cX4_isAhead 112 = .ok (.iload_n 1, 1) := dk_27 (dk_at dksX4_isAhead_4 18 rfl rfl)
theorem dX4_isAhead_113 : decode cX4_isAhead 113 = .ok (.iaload, 1) := dk_46 (dk_at dksX4_isAhead_4 19 rfl rfl)
theorem dX4_isAhead_114 : decode cX4_isAhead 114 = .ok (.aload_n 0, 1) := dk_42 (dk_at dksX4_isAhead_4 20 rfl rfl)
theorem dX4_isAhead_115 : decode cX4_isAhead 115 = .ok (.getfield 52, 3) := dk_180 0 52 (dk_at dksX4_isAhead_4 21 rfl rfl)
theorem dX4_isAhead_118 : decode cX4_isAhead 118 = .ok (.iload_n 2, 1) := dk_28 (dk_at dksX4_isAhead_5 0 rfl rfl)
theorem dX4_isAhead_119 : decode cX4_isAhead 119 = .ok (.iaload, 1) := dk_46 (dk_at dksX4_isAhead_5 1 rfl rfl)
theorem dX4_isAhead_120 : decode cX4_isAhead 120 = .ok (.if_icmp .eq 24, 3) := dk_159 0 24 (dk_at dksX4_isAhead_5 2 rfl rfl)
theorem dX4_isAhead_123 : decode cX4_isAhead 123 = .ok (.aload_n 0, 1) := dk_42 (dk_at dksX4_isAhead_5 5 rfl rfl)
theorem dX4_isAhead_124 : decode cX4_isAhead 124 = .ok (.getfield 52, 3) := dk_180 0 52 (dk_at dksX4_isAhead_5 6 rfl rfl)
theorem dX4_isAhead_127 : decode cX4_isAhead 127 = .ok (.iload_n 1, 1) := dk_27 (dk_at dksX4_isAhead_5 9 rfl rfl)
theorem dX4_isAhead_128 : decode cX4_isAhead 128 = .ok (.iaload, 1) := dk_46 (dk_at dksX4_isAhead_5 10 rfl rfl)
theorem dX4_isAhead_129 : decode cX4_isAhead 129 = .ok (.aload_n 0, 1) := dk_42 (dk_at dksX4_isAhead_5 11 rfl rfl)
theorem dX4_isAhead_130 : decode cX4_isAhead 130 = .ok (.getfield 52, 3) := dk_180 0 52 (dk_at dksX4_isAhead_5 12 rfl rfl)
theorem dX4_isAhead_133 : decode cX4_isAhead 133 = .ok (.iload_n 2, 1) := dk_28 (dk_at dksX4_isAhead_5 15 rfl rfl)
theorem dX4_isAhead_134 : decode cX4_isAhead 134 = .ok (.iaload, 1) := dk_46 (dk_at dksX4_isAhead_5 16 rfl rfl)
theorem dX4_isAhead_135 : decode cX4_isAhead 135 = .ok (.if_icmp .ge 7, 3) := dk_162 0 7 (dk_at dksX4_isAhead_5 17 rfl rfl)
theorem dX4_isAhead_138 : decode cX4_isAhead 138 = .ok (.iconst 1, 1) := dk_4 (dk_at dksX4_isAhead_5 20 rfl rfl)
theorem dX4_isAhead_139 : decode cX4_isAhead 139 = .ok (.goto 4, 3) := dk_167 0 4 (dk_at dksX4_isAhead_5 21 rfl rfl)
theorem dX4_isAhead_142 : decode cX4_isAhead 142 = .ok (.iconst 0, 1) := dk_3 (dk_at dksX4_isAhead_6 0 rfl rfl)
theorem dX4_isAhead_143 : decode cX4_isAhead 143 = .ok (.ireturn, 1) := dk_172 (dk_at dksX4_isAhead_6 1 rfl rfl)
theorem dX4_isAhead_144 : decode cX4_isAhead 144 = .ok (.aload_n 0, 1) := dk_42 (dk_at dksX4_isAhead_6 2 rfl rfl)
theorem dX4_isAhead_145 : decode cX4_isAhead 145 = .ok (.getfield 55, 3) := dk_180 0 55 (dk_at dksX4_isAhead_6 3 rfl rfl)
theorem dX4_isAhead_148 : decode cX4_isAhead 148 = .ok (.iload_n 1, 1) := dk_27 (dk_at dksX4_isAhead_6 6 rfl rfl)
theorem dX4_isAhead_149 : decode cX4_isAhead 149 = .ok (.iaload, 1) := dk_46 (dk_at dksX4_isAhead_6 7 rfl rfl)
theorem dX4_isAhead_150 : decode cX4_isAhead 150 = .ok (.aload_n 0, 1) := dk_42 (dk_at dksX4_isAhead_6 8 rfl rfl)
theorem dX4_isAhead_151 : decode cX4_isAhead 151 = .ok (.getfield 55, 3) := dk_180 0 55 (dk_at dksX4_isAhead_6 9 rfl rfl)
theorem dX4_isAhead_154 : decode cX4_isAhead 154 = .ok (.iload_n 2, 1) := dk_28 (dk_at dksX4_isAhead_6 12 rfl rfl)
theorem dX4_isAhead_155 : decode cX4_isAhead 155 = .ok (.iaload, 1) := dk_46 (dk_at dksX4_isAhead_6 13 rfl rfl)
theorem dX4_isAhead_156 : decode cX4_isAhead 156 = .ok (.if_icmp .ge 7, 3) := dk_162 0 7 (dk_at dksX4_isAhead_6 14 rfl rfl)
theorem dX4_isAhead_159 : decode cX4_isAhead 159 = .ok (.iconst 1, 1) := dk_4 (dk_at dksX4_isAhead_6 17 rfl rfl)
theorem dX4_isAhead_160 : decode cX4_isAhead 160 = .ok (.goto 4, 3) := dk_167 0 4 (dk_at dksX4_isAhead_6 18 rfl rfl)
theorem dX4_isAhead_163 : decode cX4_isAhead 163 = .ok (.iconst 0, 1) := dk_3 (dk_at dksX4_isAhead_6 21 rfl rfl)
theorem dX4_isAhead_164 : decode cX4_isAhead 164 = .ok (.ireturn, 1) := dk_172 (dk_at dksX4_isAhead_6 22 rfl rfl)
abbrev cX4_newest : ByteArray := prog_14_method_33_code
def yX4_newest : MethodName := ⟨RX4, "newest", "(I)I"⟩
def dkwX4_newest_1 : List UInt8 := [42, 180, 0, 52, 27, 46, 172]
abbrev dktX4_newest_1 : List UInt8 := dkwX4_newest_1 ++ []
def dkwX4_newest_0 : List UInt8 := [42, 180, 0, 55, 27, 46, 42, 180, 0, 52, 27, 46, 164, 0, 12, 42, 180, 0, 55, 27, 46, 167, 0, 9]
abbrev dktX4_newest_0 : List UInt8 := dkwX4_newest_0 ++ dktX4_newest_1
theorem dksX4_newest_0 : cX4_newest.data.toList.drop 0 = dktX4_newest_0 := by decide +kernel
theorem dksX4_newest_1 : cX4_newest.data.toList.drop 24 = dktX4_newest_1 := dk_seg dksX4_newest_0 24 rfl rfl
theorem dX4_newest_0 : decode cX4_newest 0 = .ok (.aload_n 0, 1) := dk_42 (dk_at dksX4_newest_0 0 rfl rfl)
theorem dX4_newest_1 : decode cX4_newest 1 = .ok (.getfield 55, 3) := dk_180 0 55 (dk_at dksX4_newest_0 1 rfl rfl)
theorem dX4_newest_4 : decode cX4_newest 4 = .ok (.iload_n 1, 1) := dk_27 (dk_at dksX4_newest_0 4 rfl rfl)
theorem dX4_newest_5 : decode cX4_newest 5 = .ok (.iaload, 1) := dk_46 (dk_at dksX4_newest_0 5 rfl rfl)
theorem dX4_newest_6 : decode cX4_newest 6 = .ok (.aload_n 0, 1) := dk_42 (dk_at dksX4_newest_0 6 rfl rfl)
theorem dX4_newest_7 : decode cX4_newest 7 = .ok (.getfield 52, 3) := dk_180 0 52 (dk_at dksX4_newest_0 7 rfl rfl)
theorem dX4_newest_10 : decode cX4_newest 10 = .ok (.iload_n 1, 1) := dk_27 (dk_at dksX4_newest_0 10 rfl rfl)
theorem dX4_newest_11 : decode cX4_newest 11 = .ok (.iaload, 1) := dk_46 (dk_at dksX4_newest_0 11 rfl rfl)
theorem dX4_newest_12 : decode cX4_newest 12 = .ok (.if_icmp .le 12, 3) := dk_164 0 12 (dk_at dksX4_newest_0 12 rfl rfl)
theorem dX4_newest_15 : decode cX4_newest 15 = .ok (.aload_n 0, 1) := dk_42 (dk_at dksX4_newest_0 15 rfl rfl)
theorem dX4_newest_16 : decode cX4_newest 16 = .ok (.getfield 55, 3) := dk_180 0 55 (dk_at dksX4_newest_0 16 rfl rfl)
theorem dX4_newest_19 : decode cX4_newest 19 = .ok (.iload_n 1, 1) := dk_27 (dk_at dksX4_newest_0 19 rfl rfl)
theorem dX4_newest_20 : decode cX4_newest 20 = .ok (.iaload, 1) := dk_46 (dk_at dksX4_newest_0 20 rfl rfl)
theorem dX4_newest_21 : decode cX4_newest 21 = .ok (.goto 9, 3) := dk_167 0 9 (dk_at dksX4_newest_0 21 rfl rfl)
theorem dX4_newest_24 : decode cX4_newest 24 = .ok (.aload_n 0, 1) := dk_42 (dk_at dksX4_newest_1 0 rfl rfl)
theorem dX4_newest_25 : decode cX4_newest 25 = .ok (.getfield 52, 3) := dk_180 0 52 (dk_at dksX4_newest_1 1 rfl rfl)
theorem dX4_newest_28 : decode cX4_newest 28 = .ok (.iload_n 1, 1) := dk_27 (dk_at dksX4_newest_1 4 rfl rfl)
theorem dX4_newest_29 : decode cX4_newest 29 = .ok (.iaload, 1) := dk_46 (dk_at dksX4_newest_1 5 rfl rfl)
theorem dX4_newest_30 : decode cX4_newest 30 = .ok (.ireturn, 1) := dk_172 (dk_at dksX4_newest_1 6 rfl rfl)
abbrev cX4_matches : ByteArray := prog_14_method_59_code
def yX4_matches : MethodName := ⟨RX4, "matches", "(I)I"⟩
def dkwX4_matches_1 : List UInt8 := [182, 1, 11, 167, 0, 8, 42, 4, 182, 0, 101, 172]
abbrev dktX4_matches_1 : List UInt8 := dkwX4_matches_1 ++ []
def dkwX4_matches_0 : List UInt8 := [42, 3, 181, 0, 84, 27, 3, 42, 180, 0, 7, 3, 46, 4, 100, 184, 0, 209, 153, 0, 11, 42, 27]
abbrev dktX4_matches_0 : List UInt8 := dkwX4_matches_0 ++ dktX4_matches_1
theorem dksX4_matches_0 : cX4_matches.data.toList.drop 0 = dktX4_matches_0 := by decide +kernel
theorem dksX4_matches_1 : cX4_matches.data.toList.drop 23 = dktX4_matches_1 := dk_seg dksX4_matches_0 23 rfl rfl
theorem dX4_matches_0 : decode cX4_matches 0 = .ok (.aload_n 0, 1) := dk_42 (dk_at dksX4_matches_0 0 rfl rfl)
theorem dX4_matches_1 : decode cX4_matches 1 = .ok (.iconst 0, 1) := dk_3 (dk_at dksX4_matches_0 1 rfl rfl)
theorem dX4_matches_2 : decode cX4_matches 2 = .ok (.putfield 84, 3) := dk_181 0 84 (dk_at dksX4_matches_0 2 rfl rfl)
theorem dX4_matches_5 : decode cX4_matches 5 = .ok (.iload_n 1, 1) := dk_27 (dk_at dksX4_matches_0 5 rfl rfl)
theorem dX4_matches_6 : decode cX4_matches 6 = .ok (.iconst 0, 1) := dk_3 (dk_at dksX4_matches_0 6 rfl rfl)
theorem dX4_matches_7 : decode cX4_matches 7 = .ok (.aload_n 0, 1) := dk_42 (dk_at dksX4_matches_0 7 rfl rfl)
theorem dX4_matches_8 : decode cX4_matches 8 = .ok (.getfield 7, 3) := dk_180 0 7 (dk_at dksX4_matches_0 8 rfl rfl)
theorem dX4_matches_11 : decode cX4_matches 11 = .ok (.iconst 0, 1) := dk_3 (dk_at dksX4_matches_0 11 rfl rfl)
theorem dX4_matches_12 : decode cX4_matches 12 = .ok (.iaload, 1) := dk_46 (dk_at dksX4_matches_0 12 rfl rfl)
theorem dX4_matches_13 : decode cX4_matches 13 = .ok (.iconst 1, 1) := dk_4 (dk_at dksX4_matches_0 13 rfl rfl)
theorem dX4_matches_14 : decode cX4_matches 14 = .ok (.isub, 1) := dk_100 (dk_at dksX4_matches_0 14 rfl rfl)
theorem dX4_matches_15 : decode cX4_matches 15 = .ok (.invokestatic 209, 3) := dk_184 0 209 (dk_at dksX4_matches_0 15 rfl rfl)
theorem dX4_matches_18 : decode cX4_matches 18 = .ok (.ifCond .eq 11, 3) := dk_153 0 11 (dk_at dksX4_matches_0 18 rfl rfl)
theorem dX4_matches_21 : decode cX4_matches 21 = .ok (.aload_n 0, 1) := dk_42 (dk_at dksX4_matches_0 21 rfl rfl)
theorem dX4_matches_22 : decode cX4_matches 22 = .ok (.iload_n 1, 1) := dk_27 (dk_at dksX4_matches_0 22 rfl rfl)
theorem dX4_matches_23 : decode cX4_matches 23 = .ok (.invokevirtual 267, 3) := dk_182 1 11 (dk_at dksX4_matches_1 0 rfl rfl)
theorem dX4_matches_26 : decode cX4_matches 26 = .ok (.goto 8, 3) := dk_167 0 8 (dk_at dksX4_matches_1 3 rfl rfl)
theorem dX4_matches_29 : decode cX4_matches 29 = .ok (.aload_n 0, 1) := dk_42 (dk_at dksX4_matches_1 6 rfl rfl)
theorem dX4_matches_30 : decode cX4_matches 30 = .ok (.iconst 1, 1) := dk_4 (dk_at dksX4_matches_1 7 rfl rfl)
theorem dX4_matches_31 : decode cX4_matches 31 = .ok (.invokevirtual 101, 3) := dk_182 0 101 (dk_at dksX4_matches_1 8 rfl rfl)
theorem dX4_matches_34 : decode cX4_matches 34 = .ok (.ireturn, 1) := dk_172 (dk_at dksX4_matches_1 11 rfl rfl)
abbrev cX4_matchesOf : ByteArray := prog_14_method_31_code
def yX4_matchesOf : MethodName := ⟨RX4, "matchesOf", "(I)I"⟩
def dkwX4_matchesOf_2 : List UInt8 := [132, 4, 1, 167, 255, 223, 132, 3, 1, 167, 255, 204, 28, 172]
abbrev dktX4_matchesOf_2 : List UInt8 := dkwX4_matchesOf_2 ++ []
def dkwX4_matchesOf_1 : List UInt8 := [46, 162, 0, 28, 28, 42, 27, 29, 21, 4, 182, 0, 172, 153, 0, 7, 4, 167, 0, 4, 3, 96, 61]
abbrev dktX4_matchesOf_1 : List UInt8 := dkwX4_matchesOf_1 ++ dktX4_matchesOf_2
def dkwX4_matchesOf_0 : List UInt8 := [3, 61, 3, 62, 29, 42, 180, 0, 7, 4, 46, 162, 0, 48, 2, 54, 4, 21, 4, 42, 180, 0, 7, 4]
abbrev dktX4_matchesOf_0 : List UInt8 := dkwX4_matchesOf_0 ++ dktX4_matchesOf_1
theorem dksX4_matchesOf_0 : cX4_matchesOf.data.toList.drop 0 = dktX4_matchesOf_0 := by decide +kernel
theorem dksX4_matchesOf_1 : cX4_matchesOf.data.toList.drop 24 = dktX4_matchesOf_1 := dk_seg dksX4_matchesOf_0 24 rfl rfl
theorem dksX4_matchesOf_2 : cX4_matchesOf.data.toList.drop 47 = dktX4_matchesOf_2 := dk_seg dksX4_matchesOf_1 23 rfl rfl
theorem dX4_matchesOf_0 : decode cX4_matchesOf 0 = .ok (.iconst 0, 1) := dk_3 (dk_at dksX4_matchesOf_0 0 rfl rfl)
theorem dX4_matchesOf_1 : decode cX4_matchesOf 1 = .ok (.istore_n 2, 1) := dk_61 (dk_at dksX4_matchesOf_0 1 rfl rfl)
theorem dX4_matchesOf_2 : decode cX4_matchesOf 2 = .ok (.iconst 0, 1) := dk_3 (dk_at dksX4_matchesOf_0 2 rfl rfl)
theorem dX4_matchesOf_3 : decode cX4_matchesOf 3 = .ok (.istore_n 3, 1) := dk_62 (dk_at dksX4_matchesOf_0 3 rfl rfl)
theorem dX4_matchesOf_4 : decode cX4_matchesOf 4 = .ok (.iload_n 3, 1) := dk_29 (dk_at dksX4_matchesOf_0 4 rfl rfl)
theorem dX4_matchesOf_5 : decode cX4_matchesOf 5 = .ok (.aload_n 0, 1) := dk_42 (dk_at dksX4_matchesOf_0 5 rfl rfl)
theorem dX4_matchesOf_6 : decode cX4_matchesOf 6 = .ok (.getfield 7, 3) := dk_180 0 7 (dk_at dksX4_matchesOf_0 6 rfl rfl)
theorem dX4_matchesOf_9 : decode cX4_matchesOf 9 = .ok (.iconst 1, 1) := dk_4 (dk_at dksX4_matchesOf_0 9 rfl rfl)
theorem dX4_matchesOf_10 : decode cX4_matchesOf 10 = .ok (.iaload, 1) := dk_46 (dk_at dksX4_matchesOf_0 10 rfl rfl)
theorem dX4_matchesOf_11 : decode cX4_matchesOf 11 = .ok (.if_icmp .ge 48, 3) := dk_162 0 48 (dk_at dksX4_matchesOf_0 11 rfl rfl)
theorem dX4_matchesOf_14 : decode cX4_matchesOf 14 = .ok (.iconst (-1), 1) := dk_2 (dk_at dksX4_matchesOf_0 14 rfl rfl)
theorem dX4_matchesOf_15 : decode cX4_matchesOf 15 = .ok (.istore 4, 2) := dk_54 4 (dk_at dksX4_matchesOf_0 15 rfl rfl)
theorem dX4_matchesOf_17 : decode cX4_matchesOf 17 = .ok (.iload 4, 2) := dk_21 4 (dk_at dksX4_matchesOf_0 17 rfl rfl)
theorem dX4_matchesOf_19 : decode cX4_matchesOf 19 = .ok (.aload_n 0, 1) := dk_42 (dk_at dksX4_matchesOf_0 19 rfl rfl)
theorem dX4_matchesOf_20 : decode cX4_matchesOf 20 = .ok (.getfield 7, 3) := dk_180 0 7 (dk_at dksX4_matchesOf_0 20 rfl rfl)
theorem dX4_matchesOf_23 : decode cX4_matchesOf 23 = .ok (.iconst 1, 1) := dk_4 (dk_at dksX4_matchesOf_0 23 rfl rfl)
theorem dX4_matchesOf_24 : decode cX4_matchesOf 24 = .ok (.iaload, 1) := dk_46 (dk_at dksX4_matchesOf_1 0 rfl rfl)
theorem dX4_matchesOf_25 : decode cX4_matchesOf 25 = .ok (.if_icmp .ge 28, 3) := dk_162 0 28 (dk_at dksX4_matchesOf_1 1 rfl rfl)
theorem dX4_matchesOf_28 : decode cX4_matchesOf 28 = .ok (.iload_n 2, 1) := dk_28 (dk_at dksX4_matchesOf_1 4 rfl rfl)
theorem dX4_matchesOf_29 : decode cX4_matchesOf 29 = .ok (.aload_n 0, 1) := dk_42 (dk_at dksX4_matchesOf_1 5 rfl rfl)
theorem dX4_matchesOf_30 : decode cX4_matchesOf 30 = .ok (.iload_n 1, 1) := dk_27 (dk_at dksX4_matchesOf_1 6 rfl rfl)
theorem dX4_matchesOf_31 : decode cX4_matchesOf 31 = .ok (.iload_n 3, 1) := dk_29 (dk_at dksX4_matchesOf_1 7 rfl rfl)
theorem dX4_matchesOf_32 : decode cX4_matchesOf 32 = .ok (.iload 4, 2) := dk_21 4 (dk_at dksX4_matchesOf_1 8 rfl rfl)
theorem dX4_matchesOf_34 : decode cX4_matchesOf 34 = .ok (.invokevirtual 172, 3) := dk_182 0 172 (dk_at dksX4_matchesOf_1 10 rfl rfl)
theorem dX4_matchesOf_37 : decode cX4_matchesOf 37 = .ok (.ifCond .eq 7, 3) := dk_153 0 7 (dk_at dksX4_matchesOf_1 13 rfl rfl)
theorem dX4_matchesOf_40 : decode cX4_matchesOf 40 = .ok (.iconst 1, 1) := dk_4 (dk_at dksX4_matchesOf_1 16 rfl rfl)
theorem dX4_matchesOf_41 : decode cX4_matchesOf 41 = .ok (.goto 4, 3) := dk_167 0 4 (dk_at dksX4_matchesOf_1 17 rfl rfl)
theorem dX4_matchesOf_44 : decode cX4_matchesOf 44 = .ok (.iconst 0, 1) := dk_3 (dk_at dksX4_matchesOf_1 20 rfl rfl)
theorem dX4_matchesOf_45 : decode cX4_matchesOf 45 = .ok (.iadd, 1) := dk_96 (dk_at dksX4_matchesOf_1 21 rfl rfl)
theorem dX4_matchesOf_46 : decode cX4_matchesOf 46 = .ok (.istore_n 2, 1) := dk_61 (dk_at dksX4_matchesOf_1 22 rfl rfl)
theorem dX4_matchesOf_47 : decode cX4_matchesOf 47 = .ok (.iinc 4 1, 3) := dk_132 4 1 (dk_at dksX4_matchesOf_2 0 rfl rfl)
theorem dX4_matchesOf_50 : decode cX4_matchesOf 50 = .ok (.goto (-33), 3) := dk_167 255 223 (dk_at dksX4_matchesOf_2 3 rfl rfl)
theorem dX4_matchesOf_53 : decode cX4_matchesOf 53 = .ok (.iinc 3 1, 3) := dk_132 3 1 (dk_at dksX4_matchesOf_2 6 rfl rfl)
theorem dX4_matchesOf_56 : decode cX4_matchesOf 56 = .ok (.goto (-52), 3) := dk_167 255 204 (dk_at dksX4_matchesOf_2 9 rfl rfl)
theorem dX4_matchesOf_59 : decode cX4_matchesOf 59 = .ok (.iload_n 2, 1) := dk_28 (dk_at dksX4_matchesOf_2 12 rfl rfl)
theorem dX4_matchesOf_60 : decode cX4_matchesOf 60 = .ok (.ireturn, 1) := dk_172 (dk_at dksX4_matchesOf_2 13 rfl rfl)
abbrev cX4_fire : ByteArray := prog_14_method_60_code
def yX4_fire : MethodName := ⟨RX4, "fire", "()I"⟩
def dkwX4_fire_1 : List UInt8 := [182, 0, 203, 4, 182, 0, 244, 167, 0, 11, 42, 42, 182, 0, 200, 182, 0, 97, 172]
abbrev dktX4_fire_1 : List UInt8 := dkwX4_fire_1 ++ []
def dkwX4_fire_0 : List UInt8 := [42, 182, 0, 222, 42, 182, 0, 197, 42, 180, 0, 178, 154, 0, 22, 42, 42, 8, 42, 180, 0, 7, 6, 46]
abbrev dktX4_fire_0 : List UInt8 := dkwX4_fire_0 ++ dktX4_fire_1
theorem dksX4_fire_0 : cX4_fire.data.toList.drop 0 = dktX4_fire_0 := by decide +kernel
theorem dksX4_fire_1 : cX4_fire.data.toList.drop 24 = dktX4_fire_1 := dk_seg dksX4_fire_0 24 rfl rfl
theorem dX4_fire_0 : decode cX4_fire 0 = .ok (.aload_n 0, 1) := dk_42 (dk_at dksX4_fire_0 0 rfl rfl)
theorem dX4_fire_1 : decode cX4_fire 1 = .ok (.invokevirtual 222, 3) := dk_182 0 222 (dk_at dksX4_fire_0 1 rfl rfl)
theorem dX4_fire_4 : decode cX4_fire 4 = .ok (.aload_n 0, 1) := dk_42 (dk_at dksX4_fire_0 4 rfl rfl)
theorem dX4_fire_5 : decode cX4_fire 5 = .ok (.invokevirtual 197, 3) := dk_182 0 197 (dk_at dksX4_fire_0 5 rfl rfl)
theorem dX4_fire_8 : decode cX4_fire 8 = .ok (.aload_n 0, 1) := dk_42 (dk_at dksX4_fire_0 8 rfl rfl)
theorem dX4_fire_9 : decode cX4_fire 9 = .ok (.getfield 178, 3) := dk_180 0 178 (dk_at dksX4_fire_0 9 rfl rfl)
theorem dX4_fire_12 : decode cX4_fire 12 = .ok (.ifCond .ne 22, 3) := dk_154 0 22 (dk_at dksX4_fire_0 12 rfl rfl)
theorem dX4_fire_15 : decode cX4_fire 15 = .ok (.aload_n 0, 1) := dk_42 (dk_at dksX4_fire_0 15 rfl rfl)
theorem dX4_fire_16 : decode cX4_fire 16 = .ok (.aload_n 0, 1) := dk_42 (dk_at dksX4_fire_0 16 rfl rfl)
theorem dX4_fire_17 : decode cX4_fire 17 = .ok (.iconst 5, 1) := dk_8 (dk_at dksX4_fire_0 17 rfl rfl)
theorem dX4_fire_18 : decode cX4_fire 18 = .ok (.aload_n 0, 1) := dk_42 (dk_at dksX4_fire_0 18 rfl rfl)
theorem dX4_fire_19 : decode cX4_fire 19 = .ok (.getfield 7, 3) := dk_180 0 7 (dk_at dksX4_fire_0 19 rfl rfl)
theorem dX4_fire_22 : decode cX4_fire 22 = .ok (.iconst 3, 1) := dk_6 (dk_at dksX4_fire_0 22 rfl rfl)
theorem dX4_fire_23 : decode cX4_fire 23 = .ok (.iaload, 1) := dk_46 (dk_at dksX4_fire_0 23 rfl rfl)
theorem dX4_fire_24 : decode cX4_fire 24 = .ok (.invokevirtual 203, 3) := dk_182 0 203 (dk_at dksX4_fire_1 0 rfl rfl)
theorem dX4_fire_27 : decode cX4_fire 27 = .ok (.iconst 1, 1) := dk_4 (dk_at dksX4_fire_1 3 rfl rfl)
theorem dX4_fire_28 : decode cX4_fire 28 = .ok (.invokevirtual 244, 3) := dk_182 0 244 (dk_at dksX4_fire_1 4 rfl rfl)
theorem dX4_fire_31 : decode cX4_fire 31 = .ok (.goto 11, 3) := dk_167 0 11 (dk_at dksX4_fire_1 7 rfl rfl)
theorem dX4_fire_34 : decode cX4_fire 34 = .ok (.aload_n 0, 1) := dk_42 (dk_at dksX4_fire_1 10 rfl rfl)
theorem dX4_fire_35 : decode cX4_fire 35 = .ok (.aload_n 0, 1) := dk_42 (dk_at dksX4_fire_1 11 rfl rfl)
theorem dX4_fire_36 : decode cX4_fire 36 = .ok (.invokevirtual 200, 3) := dk_182 0 200 (dk_at dksX4_fire_1 12 rfl rfl)
theorem dX4_fire_39 : decode cX4_fire 39 = .ok (.invokevirtual 97, 3) := dk_182 0 97 (dk_at dksX4_fire_1 15 rfl rfl)
theorem dX4_fire_42 : decode cX4_fire 42 = .ok (.ireturn, 1) := dk_172 (dk_at dksX4_fire_1 18 rfl rfl)
abbrev cX4_firesFirst : ByteArray := prog_14_method_36_code
def yX4_firesFirst : MethodName := ⟨RX4, "firesFirst", "()I"⟩
def dkwX4_firesFirst_12 : List UInt8 := [4, 96, 79, 21, 12, 172]
abbrev dktX4_firesFirst_12 : List UInt8 := dkwX4_firesFirst_12 ++ []
def dkwX4_firesFirst_11 : List UInt8 := [21, 4, 96, 46, 79, 42, 180, 0, 7, 21, 9, 6, 96, 21, 12, 79, 42, 180, 0, 7, 16, 6, 92, 46]
abbrev dktX4_firesFirst_11 : List UInt8 := dkwX4_firesFirst_11 ++ dktX4_firesFirst_12
def dkwX4_firesFirst_10 : List UInt8 := [180, 0, 7, 21, 9, 5, 96, 21, 4, 2, 160, 0, 7, 2, 167, 0, 13, 42, 180, 0, 7, 16, 95]
abbrev dktX4_firesFirst_10 : List UInt8 := dkwX4_firesFirst_10 ++ dktX4_firesFirst_11
def dkwX4_firesFirst_9 : List UInt8 := [21, 9, 28, 79, 42, 180, 0, 7, 21, 9, 4, 96, 42, 180, 0, 7, 16, 95, 29, 96, 46, 79, 42]
abbrev dktX4_firesFirst_9 : List UInt8 := dkwX4_firesFirst_9 ++ dktX4_firesFirst_10
def dkwX4_firesFirst_8 : List UInt8 := [180, 0, 7, 8, 92, 46, 21, 12, 2, 160, 0, 7, 4, 167, 0, 4, 3, 96, 79, 42, 180, 0, 7]
abbrev dktX4_firesFirst_8 : List UInt8 := dkwX4_firesFirst_8 ++ dktX4_firesFirst_9
def dkwX4_firesFirst_7 : List UInt8 := [162, 0, 19, 42, 21, 6, 21, 7, 21, 8, 3, 23, 10, 182, 0, 193, 167, 0, 4, 2, 54, 12, 42]
abbrev dktX4_firesFirst_7 : List UInt8 := dkwX4_firesFirst_7 ++ dktX4_firesFirst_8
def dkwX4_firesFirst_6 : List UInt8 := [159, 0, 16, 42, 180, 0, 7, 16, 95, 21, 11, 96, 46, 167, 0, 31, 42, 180, 0, 7, 4, 46, 16, 20]
abbrev dktX4_firesFirst_6 : List UInt8 := dkwX4_firesFirst_6 ++ dktX4_firesFirst_7
def dkwX4_firesFirst_5 : List UInt8 := [21, 7, 21, 8, 182, 0, 165, 54, 11, 42, 180, 0, 7, 6, 92, 46, 4, 96, 79, 21, 11, 2]
abbrev dktX4_firesFirst_5 : List UInt8 := dkwX4_firesFirst_5 ++ dktX4_firesFirst_6
def dkwX4_firesFirst_4 : List UInt8 := [29, 182, 0, 190, 167, 0, 15, 42, 29, 182, 0, 190, 42, 21, 4, 182, 0, 190, 106, 56, 10, 42, 21, 6]
abbrev dktX4_firesFirst_4 : List UInt8 := dkwX4_firesFirst_4 ++ dktX4_firesFirst_5
def dkwX4_firesFirst_3 : List UInt8 := [54, 8, 17, 0, 235, 7, 42, 180, 0, 7, 16, 6, 46, 104, 96, 54, 9, 21, 4, 2, 160, 0, 11, 42]
abbrev dktX4_firesFirst_3 : List UInt8 := dkwX4_firesFirst_3 ++ dktX4_firesFirst_4
def dkwX4_firesFirst_2 : List UInt8 := [42, 28, 16, 8, 182, 0, 149, 182, 0, 162, 54, 7, 42, 42, 28, 16, 9, 182, 0, 149, 182, 0, 162]
abbrev dktX4_firesFirst_2 : List UInt8 := dkwX4_firesFirst_2 ++ dktX4_firesFirst_3
def dkwX4_firesFirst_1 : List UInt8 := [27, 46, 54, 4, 42, 28, 29, 21, 4, 182, 0, 172, 54, 5, 42, 28, 16, 7, 182, 0, 149, 54, 6, 42]
abbrev dktX4_firesFirst_1 : List UInt8 := dkwX4_firesFirst_1 ++ dktX4_firesFirst_2
def dkwX4_firesFirst_0 : List UInt8 := [42, 2, 182, 0, 187, 60, 42, 180, 0, 49, 27, 46, 61, 42, 180, 0, 52, 27, 46, 62, 42, 180, 0, 55]
abbrev dktX4_firesFirst_0 : List UInt8 := dkwX4_firesFirst_0 ++ dktX4_firesFirst_1
theorem dksX4_firesFirst_0 : cX4_firesFirst.data.toList.drop 0 = dktX4_firesFirst_0 := by decide +kernel
theorem dksX4_firesFirst_1 : cX4_firesFirst.data.toList.drop 24 = dktX4_firesFirst_1 := dk_seg dksX4_firesFirst_0 24 rfl rfl
theorem dksX4_firesFirst_2 : cX4_firesFirst.data.toList.drop 48 = dktX4_firesFirst_2 := dk_seg dksX4_firesFirst_1 24 rfl rfl
theorem dksX4_firesFirst_3 : cX4_firesFirst.data.toList.drop 71 = dktX4_firesFirst_3 := dk_seg dksX4_firesFirst_2 23 rfl rfl
theorem dksX4_firesFirst_4 : cX4_firesFirst.data.toList.drop 95 = dktX4_firesFirst_4 := dk_seg dksX4_firesFirst_3 24 rfl rfl
theorem dksX4_firesFirst_5 : cX4_firesFirst.data.toList.drop 119 = dktX4_firesFirst_5 := dk_seg dksX4_firesFirst_4 24 rfl rfl
theorem dksX4_firesFirst_6 : cX4_firesFirst.data.toList.drop 141 = dktX4_firesFirst_6 := dk_seg dksX4_firesFirst_5 22 rfl rfl
theorem dksX4_firesFirst_7 : cX4_firesFirst.data.toList.drop 165 = dktX4_firesFirst_7 := dk_seg dksX4_firesFirst_6 24 rfl rfl
theorem dksX4_firesFirst_8 : cX4_firesFirst.data.toList.drop 188 = dktX4_firesFirst_8 := dk_seg dksX4_firesFirst_7 23 rfl rfl
theorem dksX4_firesFirst_9 : cX4_firesFirst.data.toList.drop 211 = dktX4_firesFirst_9 := dk_seg dksX4_firesFirst_8 23 rfl rfl
theorem dksX4_firesFirst_10 : cX4_firesFirst.data.toList.drop 234 = dktX4_firesFirst_10 := dk_seg dksX4_firesFirst_9 23 rfl rfl
theorem dksX4_firesFirst_11 : cX4_firesFirst.data.toList.drop 257 = dktX4_firesFirst_11 := dk_seg dksX4_firesFirst_10 23 rfl rfl
theorem dksX4_firesFirst_12 : cX4_firesFirst.data.toList.drop 281 = dktX4_firesFirst_12 := dk_seg dksX4_firesFirst_11 24 rfl rfl
theorem dX4_firesFirst_0 : decode cX4_firesFirst 0 = .ok (.aload_n 0, 1) := dk_42 (dk_at dksX4_firesFirst_0 0 rfl rfl)
theorem dX4_firesFirst_1 : decode cX4_firesFirst 1 = .ok (.iconst (-1), 1) := dk_2 (dk_at dksX4_firesFirst_0 1 rfl rfl)
theorem dX4_firesFirst_2 : decode cX4_firesFirst 2 = .ok (.invokevirtual 187, 3) := dk_182 0 187 (dk_at dksX4_firesFirst_0 2 rfl rfl)
theorem dX4_firesFirst_5 : decode cX4_firesFirst 5 = .ok (.istore_n 1, 1) := dk_60 (dk_at dksX4_firesFirst_0 5 rfl rfl)
theorem dX4_firesFirst_6 : decode cX4_firesFirst 6 = .ok (.aload_n 0, 1) := dk_42 (dk_at dksX4_firesFirst_0 6 rfl rfl)
theorem dX4_firesFirst_7 : decode cX4_firesFirst 7 = .ok (.getfield 49, 3) := dk_180 0 49 (dk_at dksX4_firesFirst_0 7 rfl rfl)
theorem dX4_firesFirst_10 : decode cX4_firesFirst 10 = .ok (.iload_n 1, 1) := dk_27 (dk_at dksX4_firesFirst_0 10 rfl rfl)
theorem dX4_firesFirst_11 : decode cX4_firesFirst 11 = .ok (.iaload, 1) := dk_46 (dk_at dksX4_firesFirst_0 11 rfl rfl)
theorem dX4_firesFirst_12 : decode cX4_firesFirst 12 = .ok (.istore_n 2, 1) := dk_61 (dk_at dksX4_firesFirst_0 12 rfl rfl)
theorem dX4_firesFirst_13 : decode cX4_firesFirst 13 = .ok (.aload_n 0, 1) := dk_42 (dk_at dksX4_firesFirst_0 13 rfl rfl)
theorem dX4_firesFirst_14 : decode cX4_firesFirst 14 = .ok (.getfield 52, 3) := dk_180 0 52 (dk_at dksX4_firesFirst_0 14 rfl rfl)
theorem dX4_firesFirst_17 : decode cX4_firesFirst 17 = .ok (.iload_n 1, 1) := dk_27 (dk_at dksX4_firesFirst_0 17 rfl rfl)
theorem dX4_firesFirst_18 : decode cX4_firesFirst 18 = .ok (.iaload, 1) := dk_46 (dk_at dksX4_firesFirst_0 18 rfl rfl)
theorem dX4_firesFirst_19 : decode cX4_firesFirst 19 = .ok (.istore_n 3, 1) := dk_62 (dk_at dksX4_firesFirst_0 19 rfl rfl)
theorem dX4_firesFirst_20 : decode cX4_firesFirst 20 = .ok (.aload_n 0, 1) := dk_42 (dk_at dksX4_firesFirst_0 20 rfl rfl)
theorem dX4_firesFirst_21 : decode cX4_firesFirst 21 = .ok (.getfield 55, 3) := dk_180 0 55 (dk_at dksX4_firesFirst_0 21 rfl rfl)
theorem dX4_firesFirst_24 : decode cX4_firesFirst 24 = .ok (.iload_n 1, 1) := dk_27 (dk_at dksX4_firesFirst_1 0 rfl rfl)
theorem dX4_firesFirst_25 : decode cX4_firesFirst 25 = .ok (.iaload, 1) := dk_46 (dk_at dksX4_firesFirst_1 1 rfl rfl)
theorem dX4_firesFirst_26 : decode cX4_firesFirst 26 = .ok (.istore 4, 2) := dk_54 4 (dk_at dksX4_firesFirst_1 2 rfl rfl)
theorem dX4_firesFirst_28 : decode cX4_firesFirst 28 = .ok (.aload_n 0, 1) := dk_42 (dk_at dksX4_firesFirst_1 4 rfl rfl)
theorem dX4_firesFirst_29 : decode cX4_firesFirst 29 = .ok (.iload_n 2, 1) := dk_28 (dk_at dksX4_firesFirst_1 5 rfl rfl)
theorem dX4_firesFirst_30 : decode cX4_firesFirst 30 = .ok (.iload_n 3, 1) := dk_29 (dk_at dksX4_firesFirst_1 6 rfl rfl)
theorem dX4_firesFirst_31 : decode cX4_firesFirst 31 = .ok (.iload 4, 2) := dk_21 4 (dk_at dksX4_firesFirst_1 7 rfl rfl)
theorem dX4_firesFirst_33 : decode cX4_firesFirst 33 = .ok (.invokevirtual 172, 3) := dk_182 0 172 (dk_at dksX4_firesFirst_1 9 rfl rfl)
theorem dX4_firesFirst_36 : decode cX4_firesFirst 36 = .ok (.istore 5, 2) := dk_54 5 (dk_at dksX4_firesFirst_1 12 rfl rfl)
theorem dX4_firesFirst_38 : decode cX4_firesFirst 38 = .ok (.aload_n 0, 1) := dk_42 (dk_at dksX4_firesFirst_1 14 rfl rfl)
theorem dX4_firesFirst_39 : decode cX4_firesFirst 39 = .ok (.iload_n 2, 1) := dk_28 (dk_at dksX4_firesFirst_1 15 rfl rfl)
theorem dX4_firesFirst_40 : decode cX4_firesFirst 40 = .ok (.bipush 7, 2) := dk_16 7 (dk_at dksX4_firesFirst_1 16 rfl rfl)
theorem dX4_firesFirst_42 : decode cX4_firesFirst 42 = .ok (.invokevirtual 149, 3) := dk_182 0 149 (dk_at dksX4_firesFirst_1 18 rfl rfl)
theorem dX4_firesFirst_45 : decode cX4_firesFirst 45 = .ok (.istore 6, 2) := dk_54 6 (dk_at dksX4_firesFirst_1 21 rfl rfl)
theorem dX4_firesFirst_47 : decode cX4_firesFirst 47 = .ok (.aload_n 0, 1) := dk_42 (dk_at dksX4_firesFirst_1 23 rfl rfl)
theorem dX4_firesFirst_48 : decode cX4_firesFirst 48 = .ok (.aload_n 0, 1) := dk_42 (dk_at dksX4_firesFirst_2 0 rfl rfl)
theorem dX4_firesFirst_49 : decode cX4_firesFirst 49 = .ok (.iload_n 2, 1) := dk_28 (dk_at dksX4_firesFirst_2 1 rfl rfl)
theorem dX4_firesFirst_50 : decode cX4_firesFirst 50 = .ok (.bipush 8, 2) := dk_16 8 (dk_at dksX4_firesFirst_2 2 rfl rfl)
theorem dX4_firesFirst_52 : decode cX4_firesFirst 52 = .ok (.invokevirtual 149, 3) := dk_182 0 149 (dk_at dksX4_firesFirst_2 4 rfl rfl)
theorem dX4_firesFirst_55 : decode cX4_firesFirst 55 = .ok (.invokevirtual 162, 3) := dk_182 0 162 (dk_at dksX4_firesFirst_2 7 rfl rfl)
theorem dX4_firesFirst_58 : decode cX4_firesFirst 58 = .ok (.istore 7, 2) := dk_54 7 (dk_at dksX4_firesFirst_2 10 rfl rfl)
theorem dX4_firesFirst_60 : decode cX4_firesFirst 60 = .ok (.aload_n 0, 1) := dk_42 (dk_at dksX4_firesFirst_2 12 rfl rfl)
theorem dX4_firesFirst_61 : decode cX4_firesFirst 61 = .ok (.aload_n 0, 1) := dk_42 (dk_at dksX4_firesFirst_2 13 rfl rfl)
theorem dX4_firesFirst_62 : decode cX4_firesFirst 62 = .ok (.iload_n 2, 1) := dk_28 (dk_at dksX4_firesFirst_2 14 rfl rfl)
theorem dX4_firesFirst_63 : decode cX4_firesFirst 63 = .ok (.bipush 9, 2) := dk_16 9 (dk_at dksX4_firesFirst_2 15 rfl rfl)
theorem dX4_firesFirst_65 : decode cX4_firesFirst 65 = .ok (.invokevirtual 149, 3) := dk_182 0 149 (dk_at dksX4_firesFirst_2 17 rfl rfl)
theorem dX4_firesFirst_68 : decode cX4_firesFirst 68 = .ok (.invokevirtual 162, 3) := dk_182 0 162 (dk_at dksX4_firesFirst_2 20 rfl rfl)
theorem dX4_firesFirst_71 : decode cX4_firesFirst 71 = .ok (.istore 8, 2) := dk_54 8 (dk_at dksX4_firesFirst_3 0 rfl rfl)
theorem dX4_firesFirst_73 : decode cX4_firesFirst 73 = .ok (.sipush 235, 3) := dk_17 0 235 (dk_at dksX4_firesFirst_3 2 rfl rfl)
theorem dX4_firesFirst_76 : decode cX4_firesFirst 76 = .ok (.iconst 4, 1) := dk_7 (dk_at dksX4_firesFirst_3 5 rfl rfl)
theorem dX4_firesFirst_77 : decode cX4_firesFirst 77 = .ok (.aload_n 0, 1) := dk_42 (dk_at dksX4_firesFirst_3 6 rfl rfl)
theorem dX4_firesFirst_78 : decode cX4_firesFirst 78 = .ok (.getfield 7, 3) := dk_180 0 7 (dk_at dksX4_firesFirst_3 7 rfl rfl)
theorem dX4_firesFirst_81 : decode cX4_firesFirst 81 = .ok (.bipush 6, 2) := dk_16 6 (dk_at dksX4_firesFirst_3 10 rfl rfl)
theorem dX4_firesFirst_83 : decode cX4_firesFirst 83 = .ok (.iaload, 1) := dk_46 (dk_at dksX4_firesFirst_3 12 rfl rfl)
theorem dX4_firesFirst_84 : decode cX4_firesFirst 84 = .ok (.imul, 1) := dk_104 (dk_at dksX4_firesFirst_3 13 rfl rfl)
theorem dX4_firesFirst_85 : decode cX4_firesFirst 85 = .ok (.iadd, 1) := dk_96 (dk_at dksX4_firesFirst_3 14 rfl rfl)
theorem dX4_firesFirst_86 : decode cX4_firesFirst 86 = .ok (.istore 9, 2) := dk_54 9 (dk_at dksX4_firesFirst_3 15 rfl rfl)
theorem dX4_firesFirst_88 : decode cX4_firesFirst 88 = .ok (.iload 4, 2) := dk_21 4 (dk_at dksX4_firesFirst_3 17 rfl rfl)
theorem dX4_firesFirst_90 : decode cX4_firesFirst 90 = .ok (.iconst (-1), 1) := dk_2 (dk_at dksX4_firesFirst_3 19 rfl rfl)
theorem dX4_firesFirst_91 : decode cX4_firesFirst 91 = .ok (.if_icmp .ne 11, 3) := dk_160 0 11 (dk_at dksX4_firesFirst_3 20 rfl rfl)
theorem dX4_firesFirst_94 : decode cX4_firesFirst 94 = .ok (.aload_n 0, 1) := dk_42 (dk_at dksX4_firesFirst_3 23 rfl rfl)
theorem dX4_firesFirst_95 : decode cX4_firesFirst 95 = .ok (.iload_n 3, 1) := dk_29 (dk_at dksX4_firesFirst_4 0 rfl rfl)
theorem dX4_firesFirst_96 : decode cX4_firesFirst 96 = .ok (.invokevirtual 190, 3) := dk_182 0 190 (dk_at dksX4_firesFirst_4 1 rfl rfl)
theorem dX4_firesFirst_99 : decode cX4_firesFirst 99 = .ok (.goto 15, 3) := dk_167 0 15 (dk_at dksX4_firesFirst_4 4 rfl rfl)
theorem dX4_firesFirst_102 : decode cX4_firesFirst 102 = .ok (.aload_n 0, 1) := dk_42 (dk_at dksX4_firesFirst_4 7 rfl rfl)
theorem dX4_firesFirst_103 : decode cX4_firesFirst 103 = .ok (.iload_n 3, 1) := dk_29 (dk_at dksX4_firesFirst_4 8 rfl rfl)
theorem dX4_firesFirst_104 : decode cX4_firesFirst 104 = .ok (.invokevirtual 190, 3) := dk_182 0 190 (dk_at dksX4_firesFirst_4 9 rfl rfl)
theorem dX4_firesFirst_107 : decode cX4_firesFirst 107 = .ok (.aload_n 0, 1) := dk_42 (dk_at dksX4_firesFirst_4 12 rfl rfl)
theorem dX4_firesFirst_108 : decode cX4_firesFirst 108 = .ok (.iload 4, 2) := dk_21 4 (dk_at dksX4_firesFirst_4 13 rfl rfl)
theorem dX4_firesFirst_110 : decode cX4_firesFirst 110 = .ok (.invokevirtual 190, 3) := dk_182 0 190 (dk_at dksX4_firesFirst_4 15 rfl rfl)
theorem dX4_firesFirst_113 : decode cX4_firesFirst 113 = .ok (.fmul, 1) := dk_106 (dk_at dksX4_firesFirst_4 18 rfl rfl)
theorem dX4_firesFirst_114 : decode cX4_firesFirst 114 = .ok (.fstore 10, 2) := dk_56 10 (dk_at dksX4_firesFirst_4 19 rfl rfl)
theorem dX4_firesFirst_116 : decode cX4_firesFirst 116 = .ok (.aload_n 0, 1) := dk_42 (dk_at dksX4_firesFirst_4 21 rfl rfl)
theorem dX4_firesFirst_117 : decode cX4_firesFirst 117 = .ok (.iload 6, 2) := dk_21 6 (dk_at dksX4_firesFirst_4 22 rfl rfl)
theorem dX4_firesFirst_119 : decode cX4_firesFirst 119 = .ok (.iload 7, 2) := dk_21 7 (dk_at dksX4_firesFirst_5 0 rfl rfl)
theorem dX4_firesFirst_121 : decode cX4_firesFirst 121 = .ok (.iload 8, 2) := dk_21 8 (dk_at dksX4_firesFirst_5 2 rfl rfl)
theorem dX4_firesFirst_123 : decode cX4_firesFirst 123 = .ok (.invokevirtual 165, 3) := dk_182 0 165 (dk_at dksX4_firesFirst_5 4 rfl rfl)
theorem dX4_firesFirst_126 : decode cX4_firesFirst 126 = .ok (.istore 11, 2) := dk_54 11 (dk_at dksX4_firesFirst_5 7 rfl rfl)
theorem dX4_firesFirst_128 : decode cX4_firesFirst 128 = .ok (.aload_n 0, 1) := dk_42 (dk_at dksX4_firesFirst_5 9 rfl rfl)
theorem dX4_firesFirst_129 : decode cX4_firesFirst 129 = .ok (.getfield 7, 3) := dk_180 0 7 (dk_at dksX4_firesFirst_5 10 rfl rfl)
theorem dX4_firesFirst_132 : decode cX4_firesFirst 132 = .ok (.iconst 3, 1) := dk_6 (dk_at dksX4_firesFirst_5 13 rfl rfl)
theorem dX4_firesFirst_133 : decode cX4_firesFirst 133 = .ok (.dup2, 1) := dk_92 (dk_at dksX4_firesFirst_5 14 rfl rfl)
theorem dX4_firesFirst_134 : decode cX4_firesFirst 134 = .ok (.iaload, 1) := dk_46 (dk_at dksX4_firesFirst_5 15 rfl rfl)
theorem dX4_firesFirst_135 : decode cX4_firesFirst 135 = .ok (.iconst 1, 1) := dk_4 (dk_at dksX4_firesFirst_5 16 rfl rfl)
theorem dX4_firesFirst_136 : decode cX4_firesFirst 136 = .ok (.iadd, 1) := dk_96 (dk_at dksX4_firesFirst_5 17 rfl rfl)
theorem dX4_firesFirst_137 : decode cX4_firesFirst 137 = .ok (.iastore, 1) := dk_79 (dk_at dksX4_firesFirst_5 18 rfl rfl)
theorem dX4_firesFirst_138 : decode cX4_firesFirst 138 = .ok (.iload 11, 2) := dk_21 11 (dk_at dksX4_firesFirst_5 19 rfl rfl)
theorem dX4_firesFirst_140 : decode cX4_firesFirst 140 = .ok (.iconst (-1), 1) := dk_2 (dk_at dksX4_firesFirst_5 21 rfl rfl)
theorem dX4_firesFirst_141 : decode cX4_firesFirst 141 = .ok (.if_icmp .eq 16, 3) := dk_159 0 16 (dk_at dksX4_firesFirst_6 0 rfl rfl)
theorem dX4_firesFirst_144 : decode cX4_firesFirst 144 = .ok (.aload_n 0, 1) := dk_42 (dk_at dksX4_firesFirst_6 3 rfl rfl)
theorem dX4_firesFirst_145 : decode cX4_firesFirst 145 = .ok (.getfield 7, 3) := dk_180 0 7 (dk_at dksX4_firesFirst_6 4 rfl rfl)
theorem dX4_firesFirst_148 : decode cX4_firesFirst 148 = .ok (.bipush 95, 2) := dk_16 95 (dk_at dksX4_firesFirst_6 7 rfl rfl)
theorem dX4_firesFirst_150 : decode cX4_firesFirst 150 = .ok (.iload 11, 2) := dk_21 11 (dk_at dksX4_firesFirst_6 9 rfl rfl)
theorem dX4_firesFirst_152 : decode cX4_firesFirst 152 = .ok (.iadd, 1) := dk_96 (dk_at dksX4_firesFirst_6 11 rfl rfl)
theorem dX4_firesFirst_153 : decode cX4_firesFirst 153 = .ok (.iaload, 1) := dk_46 (dk_at dksX4_firesFirst_6 12 rfl rfl)
theorem dX4_firesFirst_154 : decode cX4_firesFirst 154 = .ok (.goto 31, 3) := dk_167 0 31 (dk_at dksX4_firesFirst_6 13 rfl rfl)
theorem dX4_firesFirst_157 : decode cX4_firesFirst 157 = .ok (.aload_n 0, 1) := dk_42 (dk_at dksX4_firesFirst_6 16 rfl rfl)
theorem dX4_firesFirst_158 : decode cX4_firesFirst 158 = .ok (.getfield 7, 3) := dk_180 0 7 (dk_at dksX4_firesFirst_6 17 rfl rfl)
theorem dX4_firesFirst_161 : decode cX4_firesFirst 161 = .ok (.iconst 1, 1) := dk_4 (dk_at dksX4_firesFirst_6 20 rfl rfl)
theorem dX4_firesFirst_162 : decode cX4_firesFirst 162 = .ok (.iaload, 1) := dk_46 (dk_at dksX4_firesFirst_6 21 rfl rfl)
theorem dX4_firesFirst_163 : decode cX4_firesFirst 163 = .ok (.bipush 20, 2) := dk_16 20 (dk_at dksX4_firesFirst_6 22 rfl rfl)
theorem dX4_firesFirst_165 : decode cX4_firesFirst 165 = .ok (.if_icmp .ge 19, 3) := dk_162 0 19 (dk_at dksX4_firesFirst_7 0 rfl rfl)
theorem dX4_firesFirst_168 : decode cX4_firesFirst 168 = .ok (.aload_n 0, 1) := dk_42 (dk_at dksX4_firesFirst_7 3 rfl rfl)
theorem dX4_firesFirst_169 : decode cX4_firesFirst 169 = .ok (.iload 6, 2) := dk_21 6 (dk_at dksX4_firesFirst_7 4 rfl rfl)
theorem dX4_firesFirst_171 : decode cX4_firesFirst 171 = .ok (.iload 7, 2) := dk_21 7 (dk_at dksX4_firesFirst_7 6 rfl rfl)
theorem dX4_firesFirst_173 : decode cX4_firesFirst 173 = .ok (.iload 8, 2) := dk_21 8 (dk_at dksX4_firesFirst_7 8 rfl rfl)
theorem dX4_firesFirst_175 : decode cX4_firesFirst 175 = .ok (.iconst 0, 1) := dk_3 (dk_at dksX4_firesFirst_7 10 rfl rfl)
theorem dX4_firesFirst_176 : decode cX4_firesFirst 176 = .ok (.fload 10, 2) := dk_23 10 (dk_at dksX4_firesFirst_7 11 rfl rfl)
theorem dX4_firesFirst_178 : decode cX4_firesFirst 178 = .ok (.invokevirtual 193, 3) := dk_182 0 193 (dk_at dksX4_firesFirst_7 13 rfl rfl)
theorem dX4_firesFirst_181 : decode cX4_firesFirst 181 = .ok (.goto 4, 3) := dk_167 0 4 (dk_at dksX4_firesFirst_7 16 rfl rfl)
theorem dX4_firesFirst_184 : decode cX4_firesFirst 184 = .ok (.iconst (-1), 1) := dk_2 (dk_at dksX4_firesFirst_7 19 rfl rfl)
theorem dX4_firesFirst_185 : decode cX4_firesFirst 185 = .ok (.istore 12, 2) := dk_54 12 (dk_at dksX4_firesFirst_7 20 rfl rfl)
theorem dX4_firesFirst_187 : decode cX4_firesFirst 187 = .ok (.aload_n 0, 1) := dk_42 (dk_at dksX4_firesFirst_7 22 rfl rfl)
theorem dX4_firesFirst_188 : decode cX4_firesFirst 188 = .ok (.getfield 7, 3) := dk_180 0 7 (dk_at dksX4_firesFirst_8 0 rfl rfl)
theorem dX4_firesFirst_191 : decode cX4_firesFirst 191 = .ok (.iconst 5, 1) := dk_8 (dk_at dksX4_firesFirst_8 3 rfl rfl)
theorem dX4_firesFirst_192 : decode cX4_firesFirst 192 = .ok (.dup2, 1) := dk_92 (dk_at dksX4_firesFirst_8 4 rfl rfl)
theorem dX4_firesFirst_193 : decode cX4_firesFirst 193 = .ok (.iaload, 1) := dk_46 (dk_at dksX4_firesFirst_8 5 rfl rfl)
theorem dX4_firesFirst_194 : decode cX4_firesFirst 194 = .ok (.iload 12, 2) := dk_21 12 (dk_at dksX4_firesFirst_8 6 rfl rfl)
theorem dX4_firesFirst_196 : decode cX4_firesFirst 196 = .ok (.iconst (-1), 1) := dk_2 (dk_at dksX4_firesFirst_8 8 rfl rfl)
theorem dX4_firesFirst_197 : decode cX4_firesFirst 197 = .ok (.if_icmp .ne 7, 3) := dk_160 0 7 (dk_at dksX4_firesFirst_8 9 rfl rfl)
theorem dX4_firesFirst_200 : decode cX4_firesFirst 200 = .ok (.iconst 1, 1) := dk_4 (dk_at dksX4_firesFirst_8 12 rfl rfl)
theorem dX4_firesFirst_201 : decode cX4_firesFirst 201 = .ok (.goto 4, 3) := dk_167 0 4 (dk_at dksX4_firesFirst_8 13 rfl rfl)
theorem dX4_firesFirst_204 : decode cX4_firesFirst 204 = .ok (.iconst 0, 1) := dk_3 (dk_at dksX4_firesFirst_8 16 rfl rfl)
theorem dX4_firesFirst_205 : decode cX4_firesFirst 205 = .ok (.iadd, 1) := dk_96 (dk_at dksX4_firesFirst_8 17 rfl rfl)
theorem dX4_firesFirst_206 : decode cX4_firesFirst 206 = .ok (.iastore, 1) := dk_79 (dk_at dksX4_firesFirst_8 18 rfl rfl)
theorem dX4_firesFirst_207 : decode cX4_firesFirst 207 = .ok (.aload_n 0, 1) := dk_42 (dk_at dksX4_firesFirst_8 19 rfl rfl)
theorem dX4_firesFirst_208 : decode cX4_firesFirst 208 = .ok (.getfield 7, 3) := dk_180 0 7 (dk_at dksX4_firesFirst_8 20 rfl rfl)
theorem dX4_firesFirst_211 : decode cX4_firesFirst 211 = .ok (.iload 9, 2) := dk_21 9 (dk_at dksX4_firesFirst_9 0 rfl rfl)
theorem dX4_firesFirst_213 : decode cX4_firesFirst 213 = .ok (.iload_n 2, 1) := dk_28 (dk_at dksX4_firesFirst_9 2 rfl rfl)
theorem dX4_firesFirst_214 : decode cX4_firesFirst 214 = .ok (.iastore, 1) := dk_79 (dk_at dksX4_firesFirst_9 3 rfl rfl)
theorem dX4_firesFirst_215 : decode cX4_firesFirst 215 = .ok (.aload_n 0, 1) := dk_42 (dk_at dksX4_firesFirst_9 4 rfl rfl)
theorem dX4_firesFirst_216 : decode cX4_firesFirst 216 = .ok (.getfield 7, 3) := dk_180 0 7 (dk_at dksX4_firesFirst_9 5 rfl rfl)
theorem dX4_firesFirst_219 : decode cX4_firesFirst 219 = .ok (.iload 9, 2) := dk_21 9 (dk_at dksX4_firesFirst_9 8 rfl rfl)
theorem dX4_firesFirst_221 : decode cX4_firesFirst 221 = .ok (.iconst 1, 1) := dk_4 (dk_at dksX4_firesFirst_9 10 rfl rfl)
theorem dX4_firesFirst_222 : decode cX4_firesFirst 222 = .ok (.iadd, 1) := dk_96 (dk_at dksX4_firesFirst_9 11 rfl rfl)
theorem dX4_firesFirst_223 : decode cX4_firesFirst 223 = .ok (.aload_n 0, 1) := dk_42 (dk_at dksX4_firesFirst_9 12 rfl rfl)
theorem dX4_firesFirst_224 : decode cX4_firesFirst 224 = .ok (.getfield 7, 3) := dk_180 0 7 (dk_at dksX4_firesFirst_9 13 rfl rfl)
theorem dX4_firesFirst_227 : decode cX4_firesFirst 227 = .ok (.bipush 95, 2) := dk_16 95 (dk_at dksX4_firesFirst_9 16 rfl rfl)
theorem dX4_firesFirst_229 : decode cX4_firesFirst 229 = .ok (.iload_n 3, 1) := dk_29 (dk_at dksX4_firesFirst_9 18 rfl rfl)
theorem dX4_firesFirst_230 : decode cX4_firesFirst 230 = .ok (.iadd, 1) := dk_96 (dk_at dksX4_firesFirst_9 19 rfl rfl)
theorem dX4_firesFirst_231 : decode cX4_firesFirst 231 = .ok (.iaload, 1) := dk_46 (dk_at dksX4_firesFirst_9 20 rfl rfl)
theorem dX4_firesFirst_232 : decode cX4_firesFirst 232 = .ok (.iastore, 1) := dk_79 (dk_at dksX4_firesFirst_9 21 rfl rfl)
theorem dX4_firesFirst_233 : decode cX4_firesFirst 233 = .ok (.aload_n 0, 1) := dk_42 (dk_at dksX4_firesFirst_9 22 rfl rfl)
theorem dX4_firesFirst_234 : decode cX4_firesFirst 234 = .ok (.getfield 7, 3) := dk_180 0 7 (dk_at dksX4_firesFirst_10 0 rfl rfl)
theorem dX4_firesFirst_237 : decode cX4_firesFirst 237 = .ok (.iload 9, 2) := dk_21 9 (dk_at dksX4_firesFirst_10 3 rfl rfl)
theorem dX4_firesFirst_239 : decode cX4_firesFirst 239 = .ok (.iconst 2, 1) := dk_5 (dk_at dksX4_firesFirst_10 5 rfl rfl)
theorem dX4_firesFirst_240 : decode cX4_firesFirst 240 = .ok (.iadd, 1) := dk_96 (dk_at dksX4_firesFirst_10 6 rfl rfl)
theorem dX4_firesFirst_241 : decode cX4_firesFirst 241 = .ok (.iload 4, 2) := dk_21 4 (dk_at dksX4_firesFirst_10 7 rfl rfl)
theorem dX4_firesFirst_243 : decode cX4_firesFirst 243 = .ok (.iconst (-1), 1) := dk_2 (dk_at dksX4_firesFirst_10 9 rfl rfl)
theorem dX4_firesFirst_244 : decode cX4_firesFirst 244 = .ok (.if_icmp .ne 7, 3) := dk_160 0 7 (dk_at dksX4_firesFirst_10 10 rfl rfl)
theorem dX4_firesFirst_247 : decode cX4_firesFirst 247 = .ok (.iconst (-1), 1) := dk_2 (dk_at dksX4_firesFirst_10 13 rfl rfl)
theorem dX4_firesFirst_248 : decode cX4_firesFirst 248 = .ok (.goto 13, 3) := dk_167 0 13 (dk_at dksX4_firesFirst_10 14 rfl rfl)
theorem dX4_firesFirst_251 : decode cX4_firesFirst 251 = .ok (.aload_n 0, 1) := dk_42 (dk_at dksX4_firesFirst_10 17 rfl rfl)
theorem dX4_firesFirst_252 : decode cX4_firesFirst 252 = .ok (.getfield 7, 3) := dk_180 0 7 (dk_at dksX4_firesFirst_10 18 rfl rfl)
theorem dX4_firesFirst_255 : decode cX4_firesFirst 255 = .ok (.bipush 95, 2) := dk_16 95 (dk_at dksX4_firesFirst_10 21 rfl rfl)
theorem dX4_firesFirst_257 : decode cX4_firesFirst 257 = .ok (.iload 4, 2) := dk_21 4 (dk_at dksX4_firesFirst_11 0 rfl rfl)
theorem dX4_firesFirst_259 : decode cX4_firesFirst 259 = .ok (.iadd, 1) := dk_96 (dk_at dksX4_firesFirst_11 2 rfl rfl)
theorem dX4_firesFirst_260 : decode cX4_firesFirst 260 = .ok (.iaload, 1) := dk_46 (dk_at dksX4_firesFirst_11 3 rfl rfl)
theorem dX4_firesFirst_261 : decode cX4_firesFirst 261 = .ok (.iastore, 1) := dk_79 (dk_at dksX4_firesFirst_11 4 rfl rfl)
theorem dX4_firesFirst_262 : decode cX4_firesFirst 262 = .ok (.aload_n 0, 1) := dk_42 (dk_at dksX4_firesFirst_11 5 rfl rfl)
theorem dX4_firesFirst_263 : decode cX4_firesFirst 263 = .ok (.getfield 7, 3) := dk_180 0 7 (dk_at dksX4_firesFirst_11 6 rfl rfl)
theorem dX4_firesFirst_266 : decode cX4_firesFirst 266 = .ok (.iload 9, 2) := dk_21 9 (dk_at dksX4_firesFirst_11 9 rfl rfl)
theorem dX4_firesFirst_268 : decode cX4_firesFirst 268 = .ok (.iconst 3, 1) := dk_6 (dk_at dksX4_firesFirst_11 11 rfl rfl)
theorem dX4_firesFirst_269 : decode cX4_firesFirst 269 = .ok (.iadd, 1) := dk_96 (dk_at dksX4_firesFirst_11 12 rfl rfl)
theorem dX4_firesFirst_270 : decode cX4_firesFirst 270 = .ok (.iload 12, 2) := dk_21 12 (dk_at dksX4_firesFirst_11 13 rfl rfl)
theorem dX4_firesFirst_272 : decode cX4_firesFirst 272 = .ok (.iastore, 1) := dk_79 (dk_at dksX4_firesFirst_11 15 rfl rfl)
theorem dX4_firesFirst_273 : decode cX4_firesFirst 273 = .ok (.aload_n 0, 1) := dk_42 (dk_at dksX4_firesFirst_11 16 rfl rfl)
theorem dX4_firesFirst_274 : decode cX4_firesFirst 274 = .ok (.getfield 7, 3) := dk_180 0 7 (dk_at dksX4_firesFirst_11 17 rfl rfl)
theorem dX4_firesFirst_277 : decode cX4_firesFirst 277 = .ok (.bipush 6, 2) := dk_16 6 (dk_at dksX4_firesFirst_11 20 rfl rfl)
theorem dX4_firesFirst_279 : decode cX4_firesFirst 279 = .ok (.dup2, 1) := dk_92 (dk_at dksX4_firesFirst_11 22 rfl rfl)
theorem dX4_firesFirst_280 : decode cX4_firesFirst 280 = .ok (.iaload, 1) := dk_46 (dk_at dksX4_firesFirst_11 23 rfl rfl)
theorem dX4_firesFirst_281 : decode cX4_firesFirst 281 = .ok (.iconst 1, 1) := dk_4 (dk_at dksX4_firesFirst_12 0 rfl rfl)
theorem dX4_firesFirst_282 : decode cX4_firesFirst 282 = .ok (.iadd, 1) := dk_96 (dk_at dksX4_firesFirst_12 1 rfl rfl)
theorem dX4_firesFirst_283 : decode cX4_firesFirst 283 = .ok (.iastore, 1) := dk_79 (dk_at dksX4_firesFirst_12 2 rfl rfl)
theorem dX4_firesFirst_284 : decode cX4_firesFirst 284 = .ok (.iload 12, 2) := dk_21 12 (dk_at dksX4_firesFirst_12 3 rfl rfl)
theorem dX4_firesFirst_286 : decode cX4_firesFirst 286 = .ok (.ireturn, 1) := dk_172 (dk_at dksX4_firesFirst_12 5 rfl rfl)
abbrev cX4_run : ByteArray := prog_14_method_61_code
def yX4_run : MethodName := ⟨RX4, "run", "(I)I"⟩
def dkwX4_run_0 : List UInt8 := [42, 182, 0, 222, 42, 42, 27, 182, 1, 14, 4, 182, 0, 244, 172]
abbrev dktX4_run_0 : List UInt8 := dkwX4_run_0 ++ []
theorem dksX4_run_0 : cX4_run.data.toList.drop 0 = dktX4_run_0 := by decide +kernel
theorem dX4_run_0 : decode cX4_run 0 = .ok (.aload_n 0, 1) := dk_42 (dk_at dksX4_run_0 0 rfl rfl)
theorem dX4_run_1 : decode cX4_run 1 = .ok (.invokevirtual 222, 3) := dk_182 0 222 (dk_at dksX4_run_0 1 rfl rfl)
theorem dX4_run_4 : decode cX4_run 4 = .ok (.aload_n 0, 1) := dk_42 (dk_at dksX4_run_0 4 rfl rfl)
theorem dX4_run_5 : decode cX4_run 5 = .ok (.aload_n 0, 1) := dk_42 (dk_at dksX4_run_0 5 rfl rfl)
theorem dX4_run_6 : decode cX4_run 6 = .ok (.iload_n 1, 1) := dk_27 (dk_at dksX4_run_0 6 rfl rfl)
theorem dX4_run_7 : decode cX4_run 7 = .ok (.invokevirtual 270, 3) := dk_182 1 14 (dk_at dksX4_run_0 7 rfl rfl)
theorem dX4_run_10 : decode cX4_run 10 = .ok (.iconst 1, 1) := dk_4 (dk_at dksX4_run_0 10 rfl rfl)
theorem dX4_run_11 : decode cX4_run 11 = .ok (.invokevirtual 244, 3) := dk_182 0 244 (dk_at dksX4_run_0 11 rfl rfl)
theorem dX4_run_14 : decode cX4_run 14 = .ok (.ireturn, 1) := dk_172 (dk_at dksX4_run_0 14 rfl rfl)
abbrev cX4_runs : ByteArray := prog_14_method_42_code
def yX4_runs : MethodName := ⟨RX4, "runs", "(I)I"⟩
def dkwX4_runs_0 : List UInt8 := [27, 3, 16, 30, 184, 0, 209, 153, 0, 15, 42, 42, 27, 182, 0, 219, 182, 0, 206, 167, 0, 4, 2, 172]
abbrev dktX4_runs_0 : List UInt8 := dkwX4_runs_0 ++ []
theorem dksX4_runs_0 : cX4_runs.data.toList.drop 0 = dktX4_runs_0 := by decide +kernel
theorem dX4_runs_0 : decode cX4_runs 0 = .ok (.iload_n 1, 1) := dk_27 (dk_at dksX4_runs_0 0 rfl rfl)
theorem dX4_runs_1 : decode cX4_runs 1 = .ok (.iconst 0, 1) := dk_3 (dk_at dksX4_runs_0 1 rfl rfl)
theorem dX4_runs_2 : decode cX4_runs 2 = .ok (.bipush 30, 2) := dk_16 30 (dk_at dksX4_runs_0 2 rfl rfl)
theorem dX4_runs_4 : decode cX4_runs 4 = .ok (.invokestatic 209, 3) := dk_184 0 209 (dk_at dksX4_runs_0 4 rfl rfl)
theorem dX4_runs_7 : decode cX4_runs 7 = .ok (.ifCond .eq 15, 3) := dk_153 0 15 (dk_at dksX4_runs_0 7 rfl rfl)
theorem dX4_runs_10 : decode cX4_runs 10 = .ok (.aload_n 0, 1) := dk_42 (dk_at dksX4_runs_0 10 rfl rfl)
theorem dX4_runs_11 : decode cX4_runs 11 = .ok (.aload_n 0, 1) := dk_42 (dk_at dksX4_runs_0 11 rfl rfl)
theorem dX4_runs_12 : decode cX4_runs 12 = .ok (.iload_n 1, 1) := dk_27 (dk_at dksX4_runs_0 12 rfl rfl)
theorem dX4_runs_13 : decode cX4_runs 13 = .ok (.invokevirtual 219, 3) := dk_182 0 219 (dk_at dksX4_runs_0 13 rfl rfl)
theorem dX4_runs_16 : decode cX4_runs 16 = .ok (.invokevirtual 206, 3) := dk_182 0 206 (dk_at dksX4_runs_0 16 rfl rfl)
theorem dX4_runs_19 : decode cX4_runs 19 = .ok (.goto 4, 3) := dk_167 0 4 (dk_at dksX4_runs_0 19 rfl rfl)
theorem dX4_runs_22 : decode cX4_runs 22 = .ok (.iconst (-1), 1) := dk_2 (dk_at dksX4_runs_0 22 rfl rfl)
theorem dX4_runs_23 : decode cX4_runs 23 = .ok (.ireturn, 1) := dk_172 (dk_at dksX4_runs_0 23 rfl rfl)
abbrev cX4_firesOften : ByteArray := prog_14_method_37_code
def yX4_firesOften : MethodName := ⟨RX4, "firesOften", "(I)I"⟩
def dkwX4_firesOften_1 : List UInt8 := [132, 2, 1, 42, 182, 0, 197, 167, 255, 232, 28, 172]
abbrev dktX4_firesOften_1 : List UInt8 := dkwX4_firesOften_1 ++ []
def dkwX4_firesOften_0 : List UInt8 := [3, 61, 42, 182, 0, 197, 28, 27, 162, 0, 25, 42, 180, 0, 178, 158, 0, 18, 42, 182, 0, 200, 62]
abbrev dktX4_firesOften_0 : List UInt8 := dkwX4_firesOften_0 ++ dktX4_firesOften_1
theorem dksX4_firesOften_0 : cX4_firesOften.data.toList.drop 0 = dktX4_firesOften_0 := by decide +kernel
theorem dksX4_firesOften_1 : cX4_firesOften.data.toList.drop 23 = dktX4_firesOften_1 := dk_seg dksX4_firesOften_0 23 rfl rfl
theorem dX4_firesOften_0 : decode cX4_firesOften 0 = .ok (.iconst 0, 1) := dk_3 (dk_at dksX4_firesOften_0 0 rfl rfl)
theorem dX4_firesOften_1 : decode cX4_firesOften 1 = .ok (.istore_n 2, 1) := dk_61 (dk_at dksX4_firesOften_0 1 rfl rfl)
theorem dX4_firesOften_2 : decode cX4_firesOften 2 = .ok (.aload_n 0, 1) := dk_42 (dk_at dksX4_firesOften_0 2 rfl rfl)
theorem dX4_firesOften_3 : decode cX4_firesOften 3 = .ok (.invokevirtual 197, 3) := dk_182 0 197 (dk_at dksX4_firesOften_0 3 rfl rfl)
theorem dX4_firesOften_6 : decode cX4_firesOften 6 = .ok (.iload_n 2, 1) := dk_28 (dk_at dksX4_firesOften_0 6 rfl rfl)
theorem dX4_firesOften_7 : decode cX4_firesOften 7 = .ok (.iload_n 1, 1) := dk_27 (dk_at dksX4_firesOften_0 7 rfl rfl)
theorem dX4_firesOften_8 : decode cX4_firesOften 8 = .ok (.if_icmp .ge 25, 3) := dk_162 0 25 (dk_at dksX4_firesOften_0 8 rfl rfl)
theorem dX4_firesOften_11 : decode cX4_firesOften 11 = .ok (.aload_n 0, 1) := dk_42 (dk_at dksX4_firesOften_0 11 rfl rfl)
theorem dX4_firesOften_12 : decode cX4_firesOften 12 = .ok (.getfield 178, 3) := dk_180 0 178 (dk_at dksX4_firesOften_0 12 rfl rfl)
theorem dX4_firesOften_15 : decode cX4_firesOften 15 = .ok (.ifCond .le 18, 3) := dk_158 0 18 (dk_at dksX4_firesOften_0 15 rfl rfl)
theorem dX4_firesOften_18 : decode cX4_firesOften 18 = .ok (.aload_n 0, 1) := dk_42 (dk_at dksX4_firesOften_0 18 rfl rfl)
theorem dX4_firesOften_19 : decode cX4_firesOften 19 = .ok (.invokevirtual 200, 3) := dk_182 0 200 (dk_at dksX4_firesOften_0 19 rfl rfl)
theorem dX4_firesOften_22 : decode cX4_firesOften 22 = .ok (.istore_n 3, 1) := dk_62 (dk_at dksX4_firesOften_0 22 rfl rfl)
theorem dX4_firesOften_23 : decode cX4_firesOften 23 = .ok (.iinc 2 1, 3) := dk_132 2 1 (dk_at dksX4_firesOften_1 0 rfl rfl)
theorem dX4_firesOften_26 : decode cX4_firesOften 26 = .ok (.aload_n 0, 1) := dk_42 (dk_at dksX4_firesOften_1 3 rfl rfl)
theorem dX4_firesOften_27 : decode cX4_firesOften 27 = .ok (.invokevirtual 197, 3) := dk_182 0 197 (dk_at dksX4_firesOften_1 4 rfl rfl)
theorem dX4_firesOften_30 : decode cX4_firesOften 30 = .ok (.goto (-24), 3) := dk_167 255 232 (dk_at dksX4_firesOften_1 7 rfl rfl)
theorem dX4_firesOften_33 : decode cX4_firesOften 33 = .ok (.iload_n 2, 1) := dk_28 (dk_at dksX4_firesOften_1 10 rfl rfl)
theorem dX4_firesOften_34 : decode cX4_firesOften 34 = .ok (.ireturn, 1) := dk_172 (dk_at dksX4_firesOften_1 11 rfl rfl)
abbrev cX4_quietIn : ByteArray := prog_14_method_62_code
def yX4_quietIn : MethodName := ⟨RX4, "quietIn", "()I"⟩
def dkwX4_quietIn_4 : List UInt8 := [182, 0, 101, 172]
abbrev dktX4_quietIn_4 : List UInt8 := dkwX4_quietIn_4 ++ []
def dkwX4_quietIn_3 : List UInt8 := [180, 0, 19, 29, 46, 79, 132, 3, 1, 167, 255, 234, 28, 153, 0, 7, 27, 167, 0, 8, 42, 4]
abbrev dktX4_quietIn_3 : List UInt8 := dkwX4_quietIn_3 ++ dktX4_quietIn_4
def dkwX4_quietIn_2 : List UInt8 := [154, 0, 7, 4, 167, 0, 4, 3, 61, 3, 62, 29, 17, 53, 107, 162, 0, 21, 42, 180, 0, 7, 29, 42]
abbrev dktX4_quietIn_2 : List UInt8 := dkwX4_quietIn_2 ++ dktX4_quietIn_3
def dkwX4_quietIn_1 : List UInt8 := [46, 79, 132, 1, 1, 167, 255, 234, 42, 16, 60, 182, 0, 219, 60, 42, 182, 0, 197, 42, 180, 0, 178]
abbrev dktX4_quietIn_1 : List UInt8 := dkwX4_quietIn_1 ++ dktX4_quietIn_2
def dkwX4_quietIn_0 : List UInt8 := [42, 3, 181, 0, 84, 3, 60, 27, 17, 53, 107, 162, 0, 21, 42, 180, 0, 19, 27, 42, 180, 0, 7, 27]
abbrev dktX4_quietIn_0 : List UInt8 := dkwX4_quietIn_0 ++ dktX4_quietIn_1
theorem dksX4_quietIn_0 : cX4_quietIn.data.toList.drop 0 = dktX4_quietIn_0 := by decide +kernel
theorem dksX4_quietIn_1 : cX4_quietIn.data.toList.drop 24 = dktX4_quietIn_1 := dk_seg dksX4_quietIn_0 24 rfl rfl
theorem dksX4_quietIn_2 : cX4_quietIn.data.toList.drop 47 = dktX4_quietIn_2 := dk_seg dksX4_quietIn_1 23 rfl rfl
theorem dksX4_quietIn_3 : cX4_quietIn.data.toList.drop 71 = dktX4_quietIn_3 := dk_seg dksX4_quietIn_2 24 rfl rfl
theorem dksX4_quietIn_4 : cX4_quietIn.data.toList.drop 93 = dktX4_quietIn_4 := dk_seg dksX4_quietIn_3 22 rfl rfl
theorem dX4_quietIn_0 : decode cX4_quietIn 0 = .ok (.aload_n 0, 1) := dk_42 (dk_at dksX4_quietIn_0 0 rfl rfl)
theorem dX4_quietIn_1 : decode cX4_quietIn 1 = .ok (.iconst 0, 1) := dk_3 (dk_at dksX4_quietIn_0 1 rfl rfl)
theorem dX4_quietIn_2 : decode cX4_quietIn 2 = .ok (.putfield 84, 3) := dk_181 0 84 (dk_at dksX4_quietIn_0 2 rfl rfl)
theorem dX4_quietIn_5 : decode cX4_quietIn 5 = .ok (.iconst 0, 1) := dk_3 (dk_at dksX4_quietIn_0 5 rfl rfl)
theorem dX4_quietIn_6 : decode cX4_quietIn 6 = .ok (.istore_n 1, 1) := dk_60 (dk_at dksX4_quietIn_0 6 rfl rfl)
theorem dX4_quietIn_7 : decode cX4_quietIn 7 = .ok (.iload_n 1, 1) := dk_27 (dk_at dksX4_quietIn_0 7 rfl rfl)
theorem dX4_quietIn_8 : decode cX4_quietIn 8 = .ok (.sipush 13675, 3) := dk_17 53 107 (dk_at dksX4_quietIn_0 8 rfl rfl)
theorem dX4_quietIn_11 : decode cX4_quietIn 11 = .ok (.if_icmp .ge 21, 3) := dk_162 0 21 (dk_at dksX4_quietIn_0 11 rfl rfl)
theorem dX4_quietIn_14 : decode cX4_quietIn 14 = .ok (.aload_n 0, 1) := dk_42 (dk_at dksX4_quietIn_0 14 rfl rfl)
theorem dX4_quietIn_15 : decode cX4_quietIn 15 = .ok (.getfield 19, 3) := dk_180 0 19 (dk_at dksX4_quietIn_0 15 rfl rfl)
theorem dX4_quietIn_18 : decode cX4_quietIn 18 = .ok (.iload_n 1, 1) := dk_27 (dk_at dksX4_quietIn_0 18 rfl rfl)
theorem dX4_quietIn_19 : decode cX4_quietIn 19 = .ok (.aload_n 0, 1) := dk_42 (dk_at dksX4_quietIn_0 19 rfl rfl)
theorem dX4_quietIn_20 : decode cX4_quietIn 20 = .ok (.getfield 7, 3) := dk_180 0 7 (dk_at dksX4_quietIn_0 20 rfl rfl)
theorem dX4_quietIn_23 : decode cX4_quietIn 23 = .ok (.iload_n 1, 1) := dk_27 (dk_at dksX4_quietIn_0 23 rfl rfl)
theorem dX4_quietIn_24 : decode cX4_quietIn 24 = .ok (.iaload, 1) := dk_46 (dk_at dksX4_quietIn_1 0 rfl rfl)
theorem dX4_quietIn_25 : decode cX4_quietIn 25 = .ok (.iastore, 1) := dk_79 (dk_at dksX4_quietIn_1 1 rfl rfl)
theorem dX4_quietIn_26 : decode cX4_quietIn 26 = .ok (.iinc 1 1, 3) := dk_132 1 1 (dk_at dksX4_quietIn_1 2 rfl rfl)
theorem dX4_quietIn_29 : decode cX4_quietIn 29 = .ok (.goto (-22), 3) := dk_167 255 234 (dk_at dksX4_quietIn_1 5 rfl rfl)
theorem dX4_quietIn_32 : decode cX4_quietIn 32 = .ok (.aload_n 0, 1) := dk_42 (dk_at dksX4_quietIn_1 8 rfl rfl)
theorem dX4_quietIn_33 : decode cX4_quietIn 33 = .ok (.bipush 60, 2) := dk_16 60 (dk_at dksX4_quietIn_1 9 rfl rfl)
theorem dX4_quietIn_35 : decode cX4_quietIn 35 = .ok (.invokevirtual 219, 3) := dk_182 0 219 (dk_at dksX4_quietIn_1 11 rfl rfl)
theorem dX4_quietIn_38 : decode cX4_quietIn 38 = .ok (.istore_n 1, 1) := dk_60 (dk_at dksX4_quietIn_1 14 rfl rfl)
theorem dX4_quietIn_39 : decode cX4_quietIn 39 = .ok (.aload_n 0, 1) := dk_42 (dk_at dksX4_quietIn_1 15 rfl rfl)
theorem dX4_quietIn_40 : decode cX4_quietIn 40 = .ok (.invokevirtual 197, 3) := dk_182 0 197 (dk_at dksX4_quietIn_1 16 rfl rfl)
theorem dX4_quietIn_43 : decode cX4_quietIn 43 = .ok (.aload_n 0, 1) := dk_42 (dk_at dksX4_quietIn_1 19 rfl rfl)
theorem dX4_quietIn_44 : decode cX4_quietIn 44 = .ok (.getfield 178, 3) := dk_180 0 178 (dk_at dksX4_quietIn_1 20 rfl rfl)
theorem dX4_quietIn_47 : decode cX4_quietIn 47 = .ok (.ifCond .ne 7, 3) := dk_154 0 7 (dk_at dksX4_quietIn_2 0 rfl rfl)
theorem dX4_quietIn_50 : decode cX4_quietIn 50 = .ok (.iconst 1, 1) := dk_4 (dk_at dksX4_quietIn_2 3 rfl rfl)
theorem dX4_quietIn_51 : decode cX4_quietIn 51 = .ok (.goto 4, 3) := dk_167 0 4 (dk_at dksX4_quietIn_2 4 rfl rfl)
theorem dX4_quietIn_54 : decode cX4_quietIn 54 = .ok (.iconst 0, 1) := dk_3 (dk_at dksX4_quietIn_2 7 rfl rfl)
theorem dX4_quietIn_55 : decode cX4_quietIn 55 = .ok (.istore_n 2, 1) := dk_61 (dk_at dksX4_quietIn_2 8 rfl rfl)
theorem dX4_quietIn_56 : decode cX4_quietIn 56 = .ok (.iconst 0, 1) := dk_3 (dk_at dksX4_quietIn_2 9 rfl rfl)
theorem dX4_quietIn_57 : decode cX4_quietIn 57 = .ok (.istore_n 3, 1) := dk_62 (dk_at dksX4_quietIn_2 10 rfl rfl)
theorem dX4_quietIn_58 : decode cX4_quietIn 58 = .ok (.iload_n 3, 1) := dk_29 (dk_at dksX4_quietIn_2 11 rfl rfl)
theorem dX4_quietIn_59 : decode cX4_quietIn 59 = .ok (.sipush 13675, 3) := dk_17 53 107 (dk_at dksX4_quietIn_2 12 rfl rfl)
theorem dX4_quietIn_62 : decode cX4_quietIn 62 = .ok (.if_icmp .ge 21, 3) := dk_162 0 21 (dk_at dksX4_quietIn_2 15 rfl rfl)
theorem dX4_quietIn_65 : decode cX4_quietIn 65 = .ok (.aload_n 0, 1) := dk_42 (dk_at dksX4_quietIn_2 18 rfl rfl)
theorem dX4_quietIn_66 : decode cX4_quietIn 66 = .ok (.getfield 7, 3) := dk_180 0 7 (dk_at dksX4_quietIn_2 19 rfl rfl)
theorem dX4_quietIn_69 : decode cX4_quietIn 69 = .ok (.iload_n 3, 1) := dk_29 (dk_at dksX4_quietIn_2 22 rfl rfl)
theorem dX4_quietIn_70 : decode cX4_quietIn 70 = .ok (.aload_n 0, 1) := dk_42 (dk_at dksX4_quietIn_2 23 rfl rfl)
theorem dX4_quietIn_71 : decode cX4_quietIn 71 = .ok (.getfield 19, 3) := dk_180 0 19 (dk_at dksX4_quietIn_3 0 rfl rfl)
theorem dX4_quietIn_74 : decode cX4_quietIn 74 = .ok (.iload_n 3, 1) := dk_29 (dk_at dksX4_quietIn_3 3 rfl rfl)
theorem dX4_quietIn_75 : decode cX4_quietIn 75 = .ok (.iaload, 1) := dk_46 (dk_at dksX4_quietIn_3 4 rfl rfl)
theorem dX4_quietIn_76 : decode cX4_quietIn 76 = .ok (.iastore, 1) := dk_79 (dk_at dksX4_quietIn_3 5 rfl rfl)
theorem dX4_quietIn_77 : decode cX4_quietIn 77 = .ok (.iinc 3 1, 3) := dk_132 3 1 (dk_at dksX4_quietIn_3 6 rfl rfl)
theorem dX4_quietIn_80 : decode cX4_quietIn 80 = .ok (.goto (-22), 3) := dk_167 255 234 (dk_at dksX4_quietIn_3 9 rfl rfl)
theorem dX4_quietIn_83 : decode cX4_quietIn 83 = .ok (.iload_n 2, 1) := dk_28 (dk_at dksX4_quietIn_3 12 rfl rfl)
theorem dX4_quietIn_84 : decode cX4_quietIn 84 = .ok (.ifCond .eq 7, 3) := dk_153 0 7 (dk_at dksX4_quietIn_3 13 rfl rfl)
theorem dX4_quietIn_87 : decode cX4_quietIn 87 = .ok (.iload_n 1, 1) := dk_27 (dk_at dksX4_quietIn_3 16 rfl rfl)
theorem dX4_quietIn_88 : decode cX4_quietIn 88 = .ok (.goto 8, 3) := dk_167 0 8 (dk_at dksX4_quietIn_3 17 rfl rfl)
theorem dX4_quietIn_91 : decode cX4_quietIn 91 = .ok (.aload_n 0, 1) := dk_42 (dk_at dksX4_quietIn_3 20 rfl rfl)
theorem dX4_quietIn_92 : decode cX4_quietIn 92 = .ok (.iconst 1, 1) := dk_4 (dk_at dksX4_quietIn_3 21 rfl rfl)
theorem dX4_quietIn_93 : decode cX4_quietIn 93 = .ok (.invokevirtual 101, 3) := dk_182 0 101 (dk_at dksX4_quietIn_4 0 rfl rfl)
theorem dX4_quietIn_96 : decode cX4_quietIn 96 = .ok (.ireturn, 1) := dk_172 (dk_at dksX4_quietIn_4 3 rfl rfl)
abbrev cX4_why : ByteArray := prog_14_method_63_code
def yX4_why : MethodName := ⟨RX4, "why", "(III)I"⟩
def dkwX4_why_4 : List UInt8 := [42, 4, 182, 0, 101, 172]
abbrev dktX4_why_4 : List UInt8 := dkwX4_why_4 ++ []
def dkwX4_why_3 : List UInt8 := [21, 5, 29, 182, 0, 120, 167, 0, 8, 42, 5, 182, 0, 101, 172, 132, 4, 255, 132, 5, 1, 167, 255, 195]
abbrev dktX4_why_3 : List UInt8 := dkwX4_why_3 ++ dktX4_why_4
def dkwX4_why_2 : List UInt8 := [182, 0, 124, 154, 0, 6, 167, 0, 36, 21, 4, 154, 0, 28, 29, 3, 5, 184, 0, 209, 153, 0, 13, 42]
abbrev dktX4_why_2 : List UInt8 := dkwX4_why_2 ++ dktX4_why_3
def dkwX4_why_1 : List UInt8 := [28, 54, 4, 3, 54, 5, 21, 5, 42, 180, 0, 7, 16, 6, 46, 162, 0, 55, 42, 21, 5, 27]
abbrev dktX4_why_1 : List UInt8 := dkwX4_why_1 ++ dktX4_why_2
def dkwX4_why_0 : List UInt8 := [42, 3, 181, 0, 84, 42, 27, 182, 0, 128, 2, 159, 0, 7, 28, 156, 0, 9, 42, 4, 182, 0, 101, 172]
abbrev dktX4_why_0 : List UInt8 := dkwX4_why_0 ++ dktX4_why_1
theorem dksX4_why_0 : cX4_why.data.toList.drop 0 = dktX4_why_0 := by decide +kernel
theorem dksX4_why_1 : cX4_why.data.toList.drop 24 = dktX4_why_1 := dk_seg dksX4_why_0 24 rfl rfl
theorem dksX4_why_2 : cX4_why.data.toList.drop 46 = dktX4_why_2 := dk_seg dksX4_why_1 22 rfl rfl
theorem dksX4_why_3 : cX4_why.data.toList.drop 70 = dktX4_why_3 := dk_seg dksX4_why_2 24 rfl rfl
theorem dksX4_why_4 : cX4_why.data.toList.drop 94 = dktX4_why_4 := dk_seg dksX4_why_3 24 rfl rfl
theorem dX4_why_0 : decode cX4_why 0 = .ok (.aload_n 0, 1) := dk_42 (dk_at dksX4_why_0 0 rfl rfl)
theorem dX4_why_1 : decode cX4_why 1 = .ok (.iconst 0, 1) := dk_3 (dk_at dksX4_why_0 1 rfl rfl)
theorem dX4_why_2 : decode cX4_why 2 = .ok (.putfield 84, 3) := dk_181 0 84 (dk_at dksX4_why_0 2 rfl rfl)
theorem dX4_why_5 : decode cX4_why 5 = .ok (.aload_n 0, 1) := dk_42 (dk_at dksX4_why_0 5 rfl rfl)
theorem dX4_why_6 : decode cX4_why 6 = .ok (.iload_n 1, 1) := dk_27 (dk_at dksX4_why_0 6 rfl rfl)
theorem dX4_why_7 : decode cX4_why 7 = .ok (.invokevirtual 128, 3) := dk_182 0 128 (dk_at dksX4_why_0 7 rfl rfl)
theorem dX4_why_10 : decode cX4_why 10 = .ok (.iconst (-1), 1) := dk_2 (dk_at dksX4_why_0 10 rfl rfl)
theorem dX4_why_11 : decode cX4_why 11 = .ok (.if_icmp .eq 7, 3) := dk_159 0 7 (dk_at dksX4_why_0 11 rfl rfl)
theorem dX4_why_14 : decode cX4_why 14 = .ok (.iload_n 2, 1) := dk_28 (dk_at dksX4_why_0 14 rfl rfl)
theorem dX4_why_15 : decode cX4_why 15 = .ok (.ifCond .ge 9, 3) := dk_156 0 9 (dk_at dksX4_why_0 15 rfl rfl)
theorem dX4_why_18 : decode cX4_why 18 = .ok (.aload_n 0, 1) := dk_42 (dk_at dksX4_why_0 18 rfl rfl)
theorem dX4_why_19 : decode cX4_why 19 = .ok (.iconst 1, 1) := dk_4 (dk_at dksX4_why_0 19 rfl rfl)
theorem dX4_why_20 : decode cX4_why 20 = .ok (.invokevirtual 101, 3) := dk_182 0 101 (dk_at dksX4_why_0 20 rfl rfl)
theorem dX4_why_23 : decode cX4_why 23 = .ok (.ireturn, 1) := dk_172 (dk_at dksX4_why_0 23 rfl rfl)
theorem dX4_why_24 : decode cX4_why 24 = .ok (.iload_n 2, 1) := dk_28 (dk_at dksX4_why_1 0 rfl rfl)
theorem dX4_why_25 : decode cX4_why 25 = .ok (.istore 4, 2) := dk_54 4 (dk_at dksX4_why_1 1 rfl rfl)
theorem dX4_why_27 : decode cX4_why 27 = .ok (.iconst 0, 1) := dk_3 (dk_at dksX4_why_1 3 rfl rfl)
theorem dX4_why_28 : decode cX4_why 28 = .ok (.istore 5, 2) := dk_54 5 (dk_at dksX4_why_1 4 rfl rfl)
theorem dX4_why_30 : decode cX4_why 30 = .ok (.iload 5, 2) := dk_21 5 (dk_at dksX4_why_1 6 rfl rfl)
theorem dX4_why_32 : decode cX4_why 32 = .ok (.aload_n 0, 1) := dk_42 (dk_at dksX4_why_1 8 rfl rfl)
theorem dX4_why_33 : decode cX4_why 33 = .ok (.getfield 7, 3) := dk_180 0 7 (dk_at dksX4_why_1 9 rfl rfl)
theorem dX4_why_36 : decode cX4_why 36 = .ok (.bipush 6, 2) := dk_16 6 (dk_at dksX4_why_1 12 rfl rfl)
theorem dX4_why_38 : decode cX4_why 38 = .ok (.iaload, 1) := dk_46 (dk_at dksX4_why_1 14 rfl rfl)
theorem dX4_why_39 : decode cX4_why 39 = .ok (.if_icmp .ge 55, 3) := dk_162 0 55 (dk_at dksX4_why_1 15 rfl rfl)
theorem dX4_why_42 : decode cX4_why 42 = .ok (.aload_n 0, 1) := dk_42 (dk_at dksX4_why_1 18 rfl rfl)
theorem dX4_why_43 : decode cX4_why 43 = .ok (.iload 5, 2) := dk_21 5 (dk_at dksX4_why_1 19 rfl rfl)
theorem dX4_why_45 : decode cX4_why 45 = .ok (.iload_n 1, 1) := dk_27 (dk_at dksX4_why_1 21 rfl rfl)
theorem dX4_why_46 : decode cX4_why 46 = .ok (.invokevirtual 124, 3) := dk_182 0 124 (dk_at dksX4_why_2 0 rfl rfl)
theorem dX4_why_49 : decode cX4_why 49 = .ok (.ifCond .ne 6, 3) := dk_154 0 6 (dk_at dksX4_why_2 3 rfl rfl)
theorem dX4_why_52 : decode cX4_why 52 = .ok (.goto 36, 3) := dk_167 0 36 (dk_at dksX4_why_2 6 rfl rfl)
theorem dX4_why_55 : decode cX4_why 55 = .ok (.iload 4, 2) := dk_21 4 (dk_at dksX4_why_2 9 rfl rfl)
theorem dX4_why_57 : decode cX4_why 57 = .ok (.ifCond .ne 28, 3) := dk_154 0 28 (dk_at dksX4_why_2 11 rfl rfl)
theorem dX4_why_60 : decode cX4_why 60 = .ok (.iload_n 3, 1) := dk_29 (dk_at dksX4_why_2 14 rfl rfl)
theorem dX4_why_61 : decode cX4_why 61 = .ok (.iconst 0, 1) := dk_3 (dk_at dksX4_why_2 15 rfl rfl)
theorem dX4_why_62 : decode cX4_why 62 = .ok (.iconst 2, 1) := dk_5 (dk_at dksX4_why_2 16 rfl rfl)
theorem dX4_why_63 : decode cX4_why 63 = .ok (.invokestatic 209, 3) := dk_184 0 209 (dk_at dksX4_why_2 17 rfl rfl)
theorem dX4_why_66 : decode cX4_why 66 = .ok (.ifCond .eq 13, 3) := dk_153 0 13 (dk_at dksX4_why_2 20 rfl rfl)
theorem dX4_why_69 : decode cX4_why 69 = .ok (.aload_n 0, 1) := dk_42 (dk_at dksX4_why_2 23 rfl rfl)
theorem dX4_why_70 : decode cX4_why 70 = .ok (.iload 5, 2) := dk_21 5 (dk_at dksX4_why_3 0 rfl rfl)
theorem dX4_why_72 : decode cX4_why 72 = .ok (.iload_n 3, 1) := dk_29 (dk_at dksX4_why_3 2 rfl rfl)
theorem dX4_why_73 : decode cX4_why 73 = .ok (.invokevirtual 120, 3) := dk_182 0 120 (dk_at dksX4_why_3 3 rfl rfl)
theorem dX4_why_76 : decode cX4_why 76 = .ok (.goto 8, 3) := dk_167 0 8 (dk_at dksX4_why_3 6 rfl rfl)
theorem dX4_why_79 : decode cX4_why 79 = .ok (.aload_n 0, 1) := dk_42 (dk_at dksX4_why_3 9 rfl rfl)
theorem dX4_why_80 : decode cX4_why 80 = .ok (.iconst 2, 1) := dk_5 (dk_at dksX4_why_3 10 rfl rfl)
theorem dX4_why_81 : decode cX4_why 81 = .ok (.invokevirtual 101, 3) := dk_182 0 101 (dk_at dksX4_why_3 11 rfl rfl)
theorem dX4_why_84 : decode cX4_why 84 = .ok (.ireturn, 1) := dk_172 (dk_at dksX4_why_3 14 rfl rfl)
theorem dX4_why_85 : decode cX4_why 85 = .ok (.iinc 4 (-1), 3) := dk_132 4 255 (dk_at dksX4_why_3 15 rfl rfl)
theorem dX4_why_88 : decode cX4_why 88 = .ok (.iinc 5 1, 3) := dk_132 5 1 (dk_at dksX4_why_3 18 rfl rfl)
theorem dX4_why_91 : decode cX4_why 91 = .ok (.goto (-61), 3) := dk_167 255 195 (dk_at dksX4_why_3 21 rfl rfl)
theorem dX4_why_94 : decode cX4_why 94 = .ok (.aload_n 0, 1) := dk_42 (dk_at dksX4_why_4 0 rfl rfl)
theorem dX4_why_95 : decode cX4_why 95 = .ok (.iconst 1, 1) := dk_4 (dk_at dksX4_why_4 1 rfl rfl)
theorem dX4_why_96 : decode cX4_why 96 = .ok (.invokevirtual 101, 3) := dk_182 0 101 (dk_at dksX4_why_4 2 rfl rfl)
theorem dX4_why_99 : decode cX4_why 99 = .ok (.ireturn, 1) := dk_172 (dk_at dksX4_why_4 5 rfl rfl)
abbrev cX4_wouldGo : ByteArray := prog_14_method_64_code
def yX4_wouldGo : MethodName := ⟨RX4, "wouldGo", "(I)I"⟩
def dkwX4_wouldGo_2 : List UInt8 := [79, 42, 182, 0, 135, 62, 42, 180, 0, 7, 17, 0, 175, 28, 96, 4, 79, 29, 172]
abbrev dktX4_wouldGo_2 : List UInt8 := dkwX4_wouldGo_2 ++ []
def dkwX4_wouldGo_1 : List UInt8 := [180, 0, 7, 17, 0, 175, 28, 96, 46, 154, 0, 5, 3, 172, 42, 180, 0, 7, 17, 0, 175, 28, 96, 3]
abbrev dktX4_wouldGo_1 : List UInt8 := dkwX4_wouldGo_1 ++ dktX4_wouldGo_2
def dkwX4_wouldGo_0 : List UInt8 := [42, 3, 181, 0, 84, 42, 27, 182, 0, 128, 61, 28, 2, 160, 0, 9, 42, 4, 182, 0, 101, 172, 42]
abbrev dktX4_wouldGo_0 : List UInt8 := dkwX4_wouldGo_0 ++ dktX4_wouldGo_1
theorem dksX4_wouldGo_0 : cX4_wouldGo.data.toList.drop 0 = dktX4_wouldGo_0 := by decide +kernel
theorem dksX4_wouldGo_1 : cX4_wouldGo.data.toList.drop 23 = dktX4_wouldGo_1 := dk_seg dksX4_wouldGo_0 23 rfl rfl
theorem dksX4_wouldGo_2 : cX4_wouldGo.data.toList.drop 47 = dktX4_wouldGo_2 := dk_seg dksX4_wouldGo_1 24 rfl rfl
theorem dX4_wouldGo_0 : decode cX4_wouldGo 0 = .ok (.aload_n 0, 1) := dk_42 (dk_at dksX4_wouldGo_0 0 rfl rfl)
theorem dX4_wouldGo_1 : decode cX4_wouldGo 1 = .ok (.iconst 0, 1) := dk_3 (dk_at dksX4_wouldGo_0 1 rfl rfl)
theorem dX4_wouldGo_2 : decode cX4_wouldGo 2 = .ok (.putfield 84, 3) := dk_181 0 84 (dk_at dksX4_wouldGo_0 2 rfl rfl)
theorem dX4_wouldGo_5 : decode cX4_wouldGo 5 = .ok (.aload_n 0, 1) := dk_42 (dk_at dksX4_wouldGo_0 5 rfl rfl)
theorem dX4_wouldGo_6 : decode cX4_wouldGo 6 = .ok (.iload_n 1, 1) := dk_27 (dk_at dksX4_wouldGo_0 6 rfl rfl)
theorem dX4_wouldGo_7 : decode cX4_wouldGo 7 = .ok (.invokevirtual 128, 3) := dk_182 0 128 (dk_at dksX4_wouldGo_0 7 rfl rfl)
theorem dX4_wouldGo_10 : decode cX4_wouldGo 10 = .ok (.istore_n 2, 1) := dk_61 (dk_at dksX4_wouldGo_0 10 rfl rfl)
theorem dX4_wouldGo_11 : decode cX4_wouldGo 11 = .ok (.iload_n 2, 1) := dk_28 (dk_at dksX4_wouldGo_0 11 rfl rfl)
theorem dX4_wouldGo_12 : decode cX4_wouldGo 12 = .ok (.iconst (-1), 1) := dk_2 (dk_at dksX4_wouldGo_0 12 rfl rfl)
theorem dX4_wouldGo_13 : decode cX4_wouldGo 13 = .ok (.if_icmp .ne 9, 3) := dk_160 0 9 (dk_at dksX4_wouldGo_0 13 rfl rfl)
theorem dX4_wouldGo_16 : decode cX4_wouldGo 16 = .ok (.aload_n 0, 1) := dk_42 (dk_at dksX4_wouldGo_0 16 rfl rfl)
theorem dX4_wouldGo_17 : decode cX4_wouldGo 17 = .ok (.iconst 1, 1) := dk_4 (dk_at dksX4_wouldGo_0 17 rfl rfl)
theorem dX4_wouldGo_18 : decode cX4_wouldGo 18 = .ok (.invokevirtual 101, 3) := dk_182 0 101 (dk_at dksX4_wouldGo_0 18 rfl rfl)
theorem dX4_wouldGo_21 : decode cX4_wouldGo 21 = .ok (.ireturn, 1) := dk_172 (dk_at dksX4_wouldGo_0 21 rfl rfl)
theorem dX4_wouldGo_22 : decode cX4_wouldGo 22 = .ok (.aload_n 0, 1) := dk_42 (dk_at dksX4_wouldGo_0 22 rfl rfl)
theorem dX4_wouldGo_23 : decode cX4_wouldGo 23 = .ok (.getfield 7, 3) := dk_180 0 7 (dk_at dksX4_wouldGo_1 0 rfl rfl)
theorem dX4_wouldGo_26 : decode cX4_wouldGo 26 = .ok (.sipush 175, 3) := dk_17 0 175 (dk_at dksX4_wouldGo_1 3 rfl rfl)
theorem dX4_wouldGo_29 : decode cX4_wouldGo 29 = .ok (.iload_n 2, 1) := dk_28 (dk_at dksX4_wouldGo_1 6 rfl rfl)
theorem dX4_wouldGo_30 : decode cX4_wouldGo 30 = .ok (.iadd, 1) := dk_96 (dk_at dksX4_wouldGo_1 7 rfl rfl)
theorem dX4_wouldGo_31 : decode cX4_wouldGo 31 = .ok (.iaload, 1) := dk_46 (dk_at dksX4_wouldGo_1 8 rfl rfl)
theorem dX4_wouldGo_32 : decode cX4_wouldGo 32 = .ok (.ifCond .ne 5, 3) := dk_154 0 5 (dk_at dksX4_wouldGo_1 9 rfl rfl)
theorem dX4_wouldGo_35 : decode cX4_wouldGo 35 = .ok (.iconst 0, 1) := dk_3 (dk_at dksX4_wouldGo_1 12 rfl rfl)
theorem dX4_wouldGo_36 : decode cX4_wouldGo 36 = .ok (.ireturn, 1) := dk_172 (dk_at dksX4_wouldGo_1 13 rfl rfl)
theorem dX4_wouldGo_37 : decode cX4_wouldGo 37 = .ok (.aload_n 0, 1) := dk_42 (dk_at dksX4_wouldGo_1 14 rfl rfl)
theorem dX4_wouldGo_38 : decode cX4_wouldGo 38 = .ok (.getfield 7, 3) := dk_180 0 7 (dk_at dksX4_wouldGo_1 15 rfl rfl)
theorem dX4_wouldGo_41 : decode cX4_wouldGo 41 = .ok (.sipush 175, 3) := dk_17 0 175 (dk_at dksX4_wouldGo_1 18 rfl rfl)
theorem dX4_wouldGo_44 : decode cX4_wouldGo 44 = .ok (.iload_n 2, 1) := dk_28 (dk_at dksX4_wouldGo_1 21 rfl rfl)
theorem dX4_wouldGo_45 : decode cX4_wouldGo 45 = .ok (.iadd, 1) := dk_96 (dk_at dksX4_wouldGo_1 22 rfl rfl)
theorem dX4_wouldGo_46 : decode cX4_wouldGo 46 = .ok (.iconst 0, 1) := dk_3 (dk_at dksX4_wouldGo_1 23 rfl rfl)
theorem dX4_wouldGo_47 : decode cX4_wouldGo 47 = .ok (.iastore, 1) := dk_79 (dk_at dksX4_wouldGo_2 0 rfl rfl)
theorem dX4_wouldGo_48 : decode cX4_wouldGo 48 = .ok (.aload_n 0, 1) := dk_42 (dk_at dksX4_wouldGo_2 1 rfl rfl)
theorem dX4_wouldGo_49 : decode cX4_wouldGo 49 = .ok (.invokevirtual 135, 3) := dk_182 0 135 (dk_at dksX4_wouldGo_2 2 rfl rfl)
theorem dX4_wouldGo_52 : decode cX4_wouldGo 52 = .ok (.istore_n 3, 1) := dk_62 (dk_at dksX4_wouldGo_2 5 rfl rfl)
theorem dX4_wouldGo_53 : decode cX4_wouldGo 53 = .ok (.aload_n 0, 1) := dk_42 (dk_at dksX4_wouldGo_2 6 rfl rfl)
theorem dX4_wouldGo_54 : decode cX4_wouldGo 54 = .ok (.getfield 7, 3) := dk_180 0 7 (dk_at dksX4_wouldGo_2 7 rfl rfl)
theorem dX4_wouldGo_57 : decode cX4_wouldGo 57 = .ok (.sipush 175, 3) := dk_17 0 175 (dk_at dksX4_wouldGo_2 10 rfl rfl)
theorem dX4_wouldGo_60 : decode cX4_wouldGo 60 = .ok (.iload_n 2, 1) := dk_28 (dk_at dksX4_wouldGo_2 13 rfl rfl)
theorem dX4_wouldGo_61 : decode cX4_wouldGo 61 = .ok (.iadd, 1) := dk_96 (dk_at dksX4_wouldGo_2 14 rfl rfl)
theorem dX4_wouldGo_62 : decode cX4_wouldGo 62 = .ok (.iconst 1, 1) := dk_4 (dk_at dksX4_wouldGo_2 15 rfl rfl)
theorem dX4_wouldGo_63 : decode cX4_wouldGo 63 = .ok (.iastore, 1) := dk_79 (dk_at dksX4_wouldGo_2 16 rfl rfl)
theorem dX4_wouldGo_64 : decode cX4_wouldGo 64 = .ok (.iload_n 3, 1) := dk_29 (dk_at dksX4_wouldGo_2 17 rfl rfl)
theorem dX4_wouldGo_65 : decode cX4_wouldGo 65 = .ok (.ireturn, 1) := dk_172 (dk_at dksX4_wouldGo_2 18 rfl rfl)
abbrev cX4_isInOrder : ByteArray := prog_14_method_66_code
def yX4_isInOrder : MethodName := ⟨RX4, "isInOrder", "()Z"⟩
def dkwX4_isInOrder_6 : List UInt8 := [172]
abbrev dktX4_isInOrder_6 : List UInt8 := dkwX4_isInOrder_6 ++ []
def dkwX4_isInOrder_5 : List UInt8 := [27, 159, 0, 5, 3, 172, 132, 1, 1, 167, 255, 204, 42, 182, 0, 135, 154, 0, 7, 4, 167, 0, 4, 3]
abbrev dktX4_isInOrder_5 : List UInt8 := dkwX4_isInOrder_5 ++ dktX4_isInOrder_6
def dkwX4_isInOrder_4 : List UInt8 := [46, 42, 180, 0, 7, 17, 0, 135, 27, 96, 46, 42, 180, 0, 7, 17, 0, 155, 27, 96, 46, 182, 0, 165]
abbrev dktX4_isInOrder_4 : List UInt8 := dkwX4_isInOrder_4 ++ dktX4_isInOrder_5
def dkwX4_isInOrder_3 : List UInt8 := [167, 255, 193, 3, 60, 27, 42, 180, 0, 7, 4, 46, 162, 0, 48, 42, 42, 180, 0, 7, 16, 115, 27, 96]
abbrev dktX4_isInOrder_3 : List UInt8 := dkwX4_isInOrder_3 ++ dktX4_isInOrder_4
def dkwX4_isInOrder_2 : List UInt8 := [27, 6, 182, 0, 120, 182, 0, 143, 153, 0, 11, 42, 27, 182, 1, 17, 153, 0, 5, 3, 172, 132, 1, 1]
abbrev dktX4_isInOrder_2 : List UInt8 := dkwX4_isInOrder_2 ++ dktX4_isInOrder_3
def dkwX4_isInOrder_1 : List UInt8 := [182, 0, 120, 182, 0, 143, 153, 0, 37, 42, 42, 27, 5, 182, 0, 120, 182, 0, 143, 153, 0, 24, 42, 42]
abbrev dktX4_isInOrder_1 : List UInt8 := dkwX4_isInOrder_1 ++ dktX4_isInOrder_2
def dkwX4_isInOrder_0 : List UInt8 := [42, 3, 181, 0, 84, 3, 60, 27, 42, 180, 0, 7, 16, 6, 46, 162, 0, 58, 42, 42, 27, 4]
abbrev dktX4_isInOrder_0 : List UInt8 := dkwX4_isInOrder_0 ++ dktX4_isInOrder_1
theorem dksX4_isInOrder_0 : cX4_isInOrder.data.toList.drop 0 = dktX4_isInOrder_0 := by decide +kernel
theorem dksX4_isInOrder_1 : cX4_isInOrder.data.toList.drop 22 = dktX4_isInOrder_1 := dk_seg dksX4_isInOrder_0 22 rfl rfl
theorem dksX4_isInOrder_2 : cX4_isInOrder.data.toList.drop 46 = dktX4_isInOrder_2 := dk_seg dksX4_isInOrder_1 24 rfl rfl
theorem dksX4_isInOrder_3 : cX4_isInOrder.data.toList.drop 70 = dktX4_isInOrder_3 := dk_seg dksX4_isInOrder_2 24 rfl rfl
theorem dksX4_isInOrder_4 : cX4_isInOrder.data.toList.drop 94 = dktX4_isInOrder_4 := dk_seg dksX4_isInOrder_3 24 rfl rfl
theorem dksX4_isInOrder_5 : cX4_isInOrder.data.toList.drop 118 = dktX4_isInOrder_5 := dk_seg dksX4_isInOrder_4 24 rfl rfl
theorem dksX4_isInOrder_6 : cX4_isInOrder.data.toList.drop 142 = dktX4_isInOrder_6 := dk_seg dksX4_isInOrder_5 24 rfl rfl
theorem dX4_isInOrder_0 : decode cX4_isInOrder 0 = .ok (.aload_n 0, 1) := dk_42 (dk_at dksX4_isInOrder_0 0 rfl rfl)
theorem dX4_isInOrder_1 : decode cX4_isInOrder 1 = .ok (.iconst 0, 1) := dk_3 (dk_at dksX4_isInOrder_0 1 rfl rfl)
theorem dX4_isInOrder_2 : decode cX4_isInOrder 2 = .ok (.putfield 84, 3) := dk_181 0 84 (dk_at dksX4_isInOrder_0 2 rfl rfl)
theorem dX4_isInOrder_5 : decode cX4_isInOrder 5 = .ok (.iconst 0, 1) := dk_3 (dk_at dksX4_isInOrder_0 5 rfl rfl)
theorem dX4_isInOrder_6 : decode cX4_isInOrder 6 = .ok (.istore_n 1, 1) := dk_60 (dk_at dksX4_isInOrder_0 6 rfl rfl)
theorem dX4_isInOrder_7 : decode cX4_isInOrder 7 = .ok (.iload_n 1, 1) := dk_27 (dk_at dksX4_isInOrder_0 7 rfl rfl)
theorem dX4_isInOrder_8 : decode cX4_isInOrder 8 = .ok (.aload_n 0, 1) := dk_42 (dk_at dksX4_isInOrder_0 8 rfl rfl)
theorem dX4_isInOrder_9 : decode cX4_isInOrder 9 = .ok (.getfield 7, 3) := dk_180 0 7 (dk_at dksX4_isInOrder_0 9 rfl rfl)
theorem dX4_isInOrder_12 : decode cX4_isInOrder 12 = .ok (.bipush 6, 2) := dk_16 6 (dk_at dksX4_isInOrder_0 12 rfl rfl)
theorem dX4_isInOrder_14 : decode cX4_isInOrder 14 = .ok (.iaload, 1) := dk_46 (dk_at dksX4_isInOrder_0 14 rfl rfl)
theorem dX4_isInOrder_15 : decode cX4_isInOrder 15 = .ok (.if_icmp .ge 58, 3) := dk_162 0 58 (dk_at dksX4_isInOrder_0 15 rfl rfl)
theorem dX4_isInOrder_18 : decode cX4_isInOrder 18 = .ok (.aload_n 0, 1) := dk_42 (dk_at dksX4_isInOrder_0 18 rfl rfl)
theorem dX4_isInOrder_19 : decode cX4_isInOrder 19 = .ok (.aload_n 0, 1) := dk_42 (dk_at dksX4_isInOrder_0 19 rfl rfl)
theorem dX4_isInOrder_20 : decode cX4_isInOrder 20 = .ok (.iload_n 1, 1) := dk_27 (dk_at dksX4_isInOrder_0 20 rfl rfl)
theorem dX4_isInOrder_21 : decode cX4_isInOrder 21 = .ok (.iconst 1, 1) := dk_4 (dk_at dksX4_isInOrder_0 21 rfl rfl)
theorem dX4_isInOrder_22 : decode cX4_isInOrder 22 = .ok (.invokevirtual 120, 3) := dk_182 0 120 (dk_at dksX4_isInOrder_1 0 rfl rfl)
theorem dX4_isInOrder_25 : decode cX4_isInOrder 25 = .ok (.invokevirtual 143, 3) := dk_182 0 143 (dk_at dksX4_isInOrder_1 3 rfl rfl)
theorem dX4_isInOrder_28 : decode cX4_isInOrder 28 = .ok (.ifCond .eq 37, 3) := dk_153 0 37 (dk_at dksX4_isInOrder_1 6 rfl rfl)
theorem dX4_isInOrder_31 : decode cX4_isInOrder 31 = .ok (.aload_n 0, 1) := dk_42 (dk_at dksX4_isInOrder_1 9 rfl rfl)
theorem dX4_isInOrder_32 : decode cX4_isInOrder 32 = .ok (.aload_n 0, 1) := dk_42 (dk_at dksX4_isInOrder_1 10 rfl rfl)
theorem dX4_isInOrder_33 : decode cX4_isInOrder 33 = .ok (.iload_n 1, 1) := dk_27 (dk_at dksX4_isInOrder_1 11 rfl rfl)
theorem dX4_isInOrder_34 : decode cX4_isInOrder 34 = .ok (.iconst 2, 1) := dk_5 (dk_at dksX4_isInOrder_1 12 rfl rfl)
theorem dX4_isInOrder_35 : decode cX4_isInOrder 35 = .ok (.invokevirtual 120, 3) := dk_182 0 120 (dk_at dksX4_isInOrder_1 13 rfl rfl)
theorem dX4_isInOrder_38 : decode cX4_isInOrder 38 = .ok (.invokevirtual 143, 3) := dk_182 0 143 (dk_at dksX4_isInOrder_1 16 rfl rfl)
theorem dX4_isInOrder_41 : decode cX4_isInOrder 41 = .ok (.ifCond .eq 24, 3) := dk_153 0 24 (dk_at dksX4_isInOrder_1 19 rfl rfl)
theorem dX4_isInOrder_44 : decode cX4_isInOrder 44 = .ok (.aload_n 0, 1) := dk_42 (dk_at dksX4_isInOrder_1 22 rfl rfl)
theorem dX4_isInOrder_45 : decode cX4_isInOrder 45 = .ok (.aload_n 0, 1) := dk_42 (dk_at dksX4_isInOrder_1 23 rfl rfl)
theorem dX4_isInOrder_46 : decode cX4_isInOrder 46 = .ok (.iload_n 1, 1) := dk_27 (dk_at dksX4_isInOrder_2 0 rfl rfl)
theorem dX4_isInOrder_47 : decode cX4_isInOrder 47 = .ok (.iconst 3, 1) := dk_6 (dk_at dksX4_isInOrder_2 1 rfl rfl)
theorem dX4_isInOrder_48 : decode cX4_isInOrder 48 = .ok (.invokevirtual 120, 3) := dk_182 0 120 (dk_at dksX4_isInOrder_2 2 rfl rfl)
theorem dX4_isInOrder_51 : decode cX4_isInOrder 51 = .ok (.invokevirtual 143, 3) := dk_182 0 143 (dk_at dksX4_isInOrder_2 5 rfl rfl)
theorem dX4_isInOrder_54 : decode cX4_isInOrder 54 = .ok (.ifCond .eq 11, 3) := dk_153 0 11 (dk_at dksX4_isInOrder_2 8 rfl rfl)
theorem dX4_isInOrder_57 : decode cX4_isInOrder 57 = .ok (.aload_n 0, 1) := dk_42 (dk_at dksX4_isInOrder_2 11 rfl rfl)
theorem dX4_isInOrder_58 : decode cX4_isInOrder 58 = .ok (.iload_n 1, 1) := dk_27 (dk_at dksX4_isInOrder_2 12 rfl rfl)
theorem dX4_isInOrder_59 : decode cX4_isInOrder 59 = .ok (.invokevirtual 273, 3) := dk_182 1 17 (dk_at dksX4_isInOrder_2 13 rfl rfl)
theorem dX4_isInOrder_62 : decode cX4_isInOrder 62 = .ok (.ifCond .eq 5, 3) := dk_153 0 5 (dk_at dksX4_isInOrder_2 16 rfl rfl)
theorem dX4_isInOrder_65 : decode cX4_isInOrder 65 = .ok (.iconst 0, 1) := dk_3 (dk_at dksX4_isInOrder_2 19 rfl rfl)
theorem dX4_isInOrder_66 : decode cX4_isInOrder 66 = .ok (.ireturn, 1) := dk_172 (dk_at dksX4_isInOrder_2 20 rfl rfl)
theorem dX4_isInOrder_67 : decode cX4_isInOrder 67 = .ok (.iinc 1 1, 3) := dk_132 1 1 (dk_at dksX4_isInOrder_2 21 rfl rfl)
theorem dX4_isInOrder_70 : decode cX4_isInOrder 70 = .ok (.goto (-63), 3) := dk_167 255 193 (dk_at dksX4_isInOrder_3 0 rfl rfl)
theorem dX4_isInOrder_73 : decode cX4_isInOrder 73 = .ok (.iconst 0, 1) := dk_3 (dk_at dksX4_isInOrder_3 3 rfl rfl)
theorem dX4_isInOrder_74 : decode cX4_isInOrder 74 = .ok (.istore_n 1, 1) := dk_60 (dk_at dksX4_isInOrder_3 4 rfl rfl)
theorem dX4_isInOrder_75 : decode cX4_isInOrder 75 = .ok (.iload_n 1, 1) := dk_27 (dk_at dksX4_isInOrder_3 5 rfl rfl)
theorem dX4_isInOrder_76 : decode cX4_isInOrder 76 = .ok (.aload_n 0, 1) := dk_42 (dk_at dksX4_isInOrder_3 6 rfl rfl)
theorem dX4_isInOrder_77 : decode cX4_isInOrder 77 = .ok (.getfield 7, 3) := dk_180 0 7 (dk_at dksX4_isInOrder_3 7 rfl rfl)
theorem dX4_isInOrder_80 : decode cX4_isInOrder 80 = .ok (.iconst 1, 1) := dk_4 (dk_at dksX4_isInOrder_3 10 rfl rfl)
theorem dX4_isInOrder_81 : decode cX4_isInOrder 81 = .ok (.iaload, 1) := dk_46 (dk_at dksX4_isInOrder_3 11 rfl rfl)
theorem dX4_isInOrder_82 : decode cX4_isInOrder 82 = .ok (.if_icmp .ge 48, 3) := dk_162 0 48 (dk_at dksX4_isInOrder_3 12 rfl rfl)
theorem dX4_isInOrder_85 : decode cX4_isInOrder 85 = .ok (.aload_n 0, 1) := dk_42 (dk_at dksX4_isInOrder_3 15 rfl rfl)
theorem dX4_isInOrder_86 : decode cX4_isInOrder 86 = .ok (.aload_n 0, 1) := dk_42 (dk_at dksX4_isInOrder_3 16 rfl rfl)
theorem dX4_isInOrder_87 : decode cX4_isInOrder 87 = .ok (.getfield 7, 3) := dk_180 0 7 (dk_at dksX4_isInOrder_3 17 rfl rfl)
theorem dX4_isInOrder_90 : decode cX4_isInOrder 90 = .ok (.bipush 115, 2) := dk_16 115 (dk_at dksX4_isInOrder_3 20 rfl rfl)
theorem dX4_isInOrder_92 : decode cX4_isInOrder 92 = .ok (.iload_n 1, 1) := dk_27 (dk_at dksX4_isInOrder_3 22 rfl rfl)
theorem dX4_isInOrder_93 : decode cX4_isInOrder 93 = .ok (.iadd, 1) := dk_96 (dk_at dksX4_isInOrder_3 23 rfl rfl)
theorem dX4_isInOrder_94 : decode cX4_isInOrder 94 = .ok (.iaload, 1) := dk_46 (dk_at dksX4_isInOrder_4 0 rfl rfl)
theorem dX4_isInOrder_95 : decode cX4_isInOrder 95 = .ok (.aload_n 0, 1) := dk_42 (dk_at dksX4_isInOrder_4 1 rfl rfl)
theorem dX4_isInOrder_96 : decode cX4_isInOrder 96 = .ok (.getfield 7, 3) := dk_180 0 7 (dk_at dksX4_isInOrder_4 2 rfl rfl)
theorem dX4_isInOrder_99 : decode cX4_isInOrder 99 = .ok (.sipush 135, 3) := dk_17 0 135 (dk_at dksX4_isInOrder_4 5 rfl rfl)
theorem dX4_isInOrder_102 : decode cX4_isInOrder 102 = .ok (.iload_n 1, 1) := dk_27 (dk_at dksX4_isInOrder_4 8 rfl rfl)
theorem dX4_isInOrder_103 : decode cX4_isInOrder 103 = .ok (.iadd, 1) := dk_96 (dk_at dksX4_isInOrder_4 9 rfl rfl)
theorem dX4_isInOrder_104 : decode cX4_isInOrder 104 = .ok (.iaload, 1) := dk_46 (dk_at dksX4_isInOrder_4 10 rfl rfl)
theorem dX4_isInOrder_105 : decode cX4_isInOrder 105 = .ok (.aload_n 0, 1) := dk_42 (dk_at dksX4_isInOrder_4 11 rfl rfl)
theorem dX4_isInOrder_106 : decode cX4_isInOrder 106 = .ok (.getfield 7, 3) := dk_180 0 7 (dk_at dksX4_isInOrder_4 12 rfl rfl)
theorem dX4_isInOrder_109 : decode cX4_isInOrder 109 = .ok (.sipush 155, 3) := dk_17 0 155 (dk_at dksX4_isInOrder_4 15 rfl rfl)
theorem dX4_isInOrder_112 : decode cX4_isInOrder 112 = .ok (.iload_n 1, 1) := dk_27 (dk_at dksX4_isInOrder_4 18 rfl rfl)
theorem dX4_isInOrder_113 : decode cX4_isInOrder 113 = .ok (.iadd, 1) := dk_96 (dk_at dksX4_isInOrder_4 19 rfl rfl)
theorem dX4_isInOrder_114 : decode cX4_isInOrder 114 = .ok (.iaload, 1) := dk_46 (dk_at dksX4_isInOrder_4 20 rfl rfl)
theorem dX4_isInOrder_115 : decode cX4_isInOrder 115 = .ok (.invokevirtual 165, 3) := dk_182 0 165 (dk_at dksX4_isInOrder_4 21 rfl rfl)
theorem dX4_isInOrder_118 : decode cX4_isInOrder 118 = .ok (.iload_n 1, 1) := dk_27 (dk_at dksX4_isInOrder_5 0 rfl rfl)
theorem dX4_isInOrder_119 : decode cX4_isInOrder 119 = .ok (.if_icmp .eq 5, 3) := dk_159 0 5 (dk_at dksX4_isInOrder_5 1 rfl rfl)
theorem dX4_isInOrder_122 : decode cX4_isInOrder 122 = .ok (.iconst 0, 1) := dk_3 (dk_at dksX4_isInOrder_5 4 rfl rfl)
theorem dX4_isInOrder_123 : decode cX4_isInOrder 123 = .ok (.ireturn, 1) := dk_172 (dk_at dksX4_isInOrder_5 5 rfl rfl)
theorem dX4_isInOrder_124 : decode cX4_isInOrder 124 = .ok (.iinc 1 1, 3) := dk_132 1 1 (dk_at dksX4_isInOrder_5 6 rfl rfl)
theorem dX4_isInOrder_127 : decode cX4_isInOrder 127 = .ok (.goto (-52), 3) := dk_167 255 204 (dk_at dksX4_isInOrder_5 9 rfl rfl)
theorem dX4_isInOrder_130 : decode cX4_isInOrder 130 = .ok (.aload_n 0, 1) := dk_42 (dk_at dksX4_isInOrder_5 12 rfl rfl)
theorem dX4_isInOrder_131 : decode cX4_isInOrder 131 = .ok (.invokevirtual 135, 3) := dk_182 0 135 (dk_at dksX4_isInOrder_5 13 rfl rfl)
theorem dX4_isInOrder_134 : decode cX4_isInOrder 134 = .ok (.ifCond .ne 7, 3) := dk_154 0 7 (dk_at dksX4_isInOrder_5 16 rfl rfl)
theorem dX4_isInOrder_137 : decode cX4_isInOrder 137 = .ok (.iconst 1, 1) := dk_4 (dk_at dksX4_isInOrder_5 19 rfl rfl)
theorem dX4_isInOrder_138 : decode cX4_isInOrder 138 = .ok (.goto 4, 3) := dk_167 0 4 (dk_at dksX4_isInOrder_5 20 rfl rfl)
theorem dX4_isInOrder_141 : decode cX4_isInOrder 141 = .ok (.iconst 0, 1) := dk_3 (dk_at dksX4_isInOrder_5 23 rfl rfl)
theorem dX4_isInOrder_142 : decode cX4_isInOrder 142 = .ok (.ireturn, 1) := dk_172 (dk_at dksX4_isInOrder_6 0 rfl rfl)
abbrev cX4_isTwice : ByteArray := prog_14_method_65_code
def yX4_isTwice : MethodName := ⟨RX4, "isTwice", "(I)Z"⟩
def dkwX4_isTwice_2 : List UInt8 := [182, 0, 120, 160, 0, 5, 4, 172, 132, 2, 1, 167, 255, 201, 3, 172]
abbrev dktX4_isTwice_2 : List UInt8 := dkwX4_isTwice_2 ++ []
def dkwX4_isTwice_1 : List UInt8 := [4, 182, 0, 120, 42, 27, 4, 182, 0, 120, 160, 0, 20, 42, 28, 5, 182, 0, 120, 42, 27, 5]
abbrev dktX4_isTwice_1 : List UInt8 := dkwX4_isTwice_1 ++ dktX4_isTwice_2
def dkwX4_isTwice_0 : List UInt8 := [3, 61, 28, 27, 162, 0, 56, 42, 28, 3, 182, 0, 120, 42, 27, 3, 182, 0, 120, 160, 0, 35, 42, 28]
abbrev dktX4_isTwice_0 : List UInt8 := dkwX4_isTwice_0 ++ dktX4_isTwice_1
theorem dksX4_isTwice_0 : cX4_isTwice.data.toList.drop 0 = dktX4_isTwice_0 := by decide +kernel
theorem dksX4_isTwice_1 : cX4_isTwice.data.toList.drop 24 = dktX4_isTwice_1 := dk_seg dksX4_isTwice_0 24 rfl rfl
theorem dksX4_isTwice_2 : cX4_isTwice.data.toList.drop 46 = dktX4_isTwice_2 := dk_seg dksX4_isTwice_1 22 rfl rfl
theorem dX4_isTwice_0 : decode cX4_isTwice 0 = .ok (.iconst 0, 1) := dk_3 (dk_at dksX4_isTwice_0 0 rfl rfl)
theorem dX4_isTwice_1 : decode cX4_isTwice 1 = .ok (.istore_n 2, 1) := dk_61 (dk_at dksX4_isTwice_0 1 rfl rfl)
theorem dX4_isTwice_2 : decode cX4_isTwice 2 = .ok (.iload_n 2, 1) := dk_28 (dk_at dksX4_isTwice_0 2 rfl rfl)
theorem dX4_isTwice_3 : decode cX4_isTwice 3 = .ok (.iload_n 1, 1) := dk_27 (dk_at dksX4_isTwice_0 3 rfl rfl)
theorem dX4_isTwice_4 : decode cX4_isTwice 4 = .ok (.if_icmp .ge 56, 3) := dk_162 0 56 (dk_at dksX4_isTwice_0 4 rfl rfl)
theorem dX4_isTwice_7 : decode cX4_isTwice 7 = .ok (.aload_n 0, 1) := dk_42 (dk_at dksX4_isTwice_0 7 rfl rfl)
theorem dX4_isTwice_8 : decode cX4_isTwice 8 = .ok (.iload_n 2, 1) := dk_28 (dk_at dksX4_isTwice_0 8 rfl rfl)
theorem dX4_isTwice_9 : decode cX4_isTwice 9 = .ok (.iconst 0, 1) := dk_3 (dk_at dksX4_isTwice_0 9 rfl rfl)
theorem dX4_isTwice_10 : decode cX4_isTwice 10 = .ok (.invokevirtual 120, 3) := dk_182 0 120 (dk_at dksX4_isTwice_0 10 rfl rfl)
theorem dX4_isTwice_13 : decode cX4_isTwice 13 = .ok (.aload_n 0, 1) := dk_42 (dk_at dksX4_isTwice_0 13 rfl rfl)
theorem dX4_isTwice_14 : decode cX4_isTwice 14 = .ok (.iload_n 1, 1) := dk_27 (dk_at dksX4_isTwice_0 14 rfl rfl)
theorem dX4_isTwice_15 : decode cX4_isTwice 15 = .ok (.iconst 0, 1) := dk_3 (dk_at dksX4_isTwice_0 15 rfl rfl)
theorem dX4_isTwice_16 : decode cX4_isTwice 16 = .ok (.invokevirtual 120, 3) := dk_182 0 120 (dk_at dksX4_isTwice_0 16 rfl rfl)
theorem dX4_isTwice_19 : decode cX4_isTwice 19 = .ok (.if_icmp .ne 35, 3) := dk_160 0 35 (dk_at dksX4_isTwice_0 19 rfl rfl)
theorem dX4_isTwice_22 : decode cX4_isTwice 22 = .ok (.aload_n 0, 1) := dk_42 (dk_at dksX4_isTwice_0 22 rfl rfl)
theorem dX4_isTwice_23 : decode cX4_isTwice 23 = .ok (.iload_n 2, 1) := dk_28 (dk_at dksX4_isTwice_0 23 rfl rfl)
theorem dX4_isTwice_24 : decode cX4_isTwice 24 = .ok (.iconst 1, 1) := dk_4 (dk_at dksX4_isTwice_1 0 rfl rfl)
theorem dX4_isTwice_25 : decode cX4_isTwice 25 = .ok (.invokevirtual 120, 3) := dk_182 0 120 (dk_at dksX4_isTwice_1 1 rfl rfl)
theorem dX4_isTwice_28 : decode cX4_isTwice 28 = .ok (.aload_n 0, 1) := dk_42 (dk_at dksX4_isTwice_1 4 rfl rfl)
theorem dX4_isTwice_29 : decode cX4_isTwice 29 = .ok (.iload_n 1, 1) := dk_27 (dk_at dksX4_isTwice_1 5 rfl rfl)
theorem dX4_isTwice_30 : decode cX4_isTwice 30 = .ok (.iconst 1, 1) := dk_4 (dk_at dksX4_isTwice_1 6 rfl rfl)
theorem dX4_isTwice_31 : decode cX4_isTwice 31 = .ok (.invokevirtual 120, 3) := dk_182 0 120 (dk_at dksX4_isTwice_1 7 rfl rfl)
theorem dX4_isTwice_34 : decode cX4_isTwice 34 = .ok (.if_icmp .ne 20, 3) := dk_160 0 20 (dk_at dksX4_isTwice_1 10 rfl rfl)
theorem dX4_isTwice_37 : decode cX4_isTwice 37 = .ok (.aload_n 0, 1) := dk_42 (dk_at dksX4_isTwice_1 13 rfl rfl)
theorem dX4_isTwice_38 : decode cX4_isTwice 38 = .ok (.iload_n 2, 1) := dk_28 (dk_at dksX4_isTwice_1 14 rfl rfl)
theorem dX4_isTwice_39 : decode cX4_isTwice 39 = .ok (.iconst 2, 1) := dk_5 (dk_at dksX4_isTwice_1 15 rfl rfl)
theorem dX4_isTwice_40 : decode cX4_isTwice 40 = .ok (.invokevirtual 120, 3) := dk_182 0 120 (dk_at dksX4_isTwice_1 16 rfl rfl)
theorem dX4_isTwice_43 : decode cX4_isTwice 43 = .ok (.aload_n 0, 1) := dk_42 (dk_at dksX4_isTwice_1 19 rfl rfl)
theorem dX4_isTwice_44 : decode cX4_isTwice 44 = .ok (.iload_n 1, 1) := dk_27 (dk_at dksX4_isTwice_1 20 rfl rfl)
theorem dX4_isTwice_45 : decode cX4_isTwice 45 = .ok (.iconst 2, 1) := dk_5 (dk_at dksX4_isTwice_1 21 rfl rfl)
theorem dX4_isTwice_46 : decode cX4_isTwice 46 = .ok (.invokevirtual 120, 3) := dk_182 0 120 (dk_at dksX4_isTwice_2 0 rfl rfl)
theorem dX4_isTwice_49 : decode cX4_isTwice 49 = .ok (.if_icmp .ne 5, 3) := dk_160 0 5 (dk_at dksX4_isTwice_2 3 rfl rfl)
theorem dX4_isTwice_52 : decode cX4_isTwice 52 = .ok (.iconst 1, 1) := dk_4 (dk_at dksX4_isTwice_2 6 rfl rfl)
theorem dX4_isTwice_53 : decode cX4_isTwice 53 = .ok (.ireturn, 1) := dk_172 (dk_at dksX4_isTwice_2 7 rfl rfl)
theorem dX4_isTwice_54 : decode cX4_isTwice 54 = .ok (.iinc 2 1, 3) := dk_132 2 1 (dk_at dksX4_isTwice_2 8 rfl rfl)
theorem dX4_isTwice_57 : decode cX4_isTwice 57 = .ok (.goto (-55), 3) := dk_167 255 201 (dk_at dksX4_isTwice_2 11 rfl rfl)
theorem dX4_isTwice_60 : decode cX4_isTwice 60 = .ok (.iconst 0, 1) := dk_3 (dk_at dksX4_isTwice_2 14 rfl rfl)
theorem dX4_isTwice_61 : decode cX4_isTwice 61 = .ok (.ireturn, 1) := dk_172 (dk_at dksX4_isTwice_2 15 rfl rfl)
abbrev cX4_line : ByteArray := prog_14_method_71_code
def yX4_line : MethodName := ⟨RX4, "line", "(I)I"⟩
def dkwX4_line_4 : List UInt8 := [16, 10, 182, 0, 149, 96, 182, 1, 23, 42, 180, 1, 20, 172]
abbrev dktX4_line_4 : List UInt8 := dkwX4_line_4 ++ []
def dkwX4_line_3 : List UInt8 := [42, 16, 62, 182, 1, 23, 42, 27, 16, 7, 182, 1, 30, 42, 16, 42, 182, 1, 23, 42, 16, 48, 42, 27]
abbrev dktX4_line_3 : List UInt8 := dkwX4_line_3 ++ dktX4_line_4
def dkwX4_line_2 : List UInt8 := [160, 0, 9, 42, 16, 33, 182, 1, 23, 42, 27, 6, 182, 0, 149, 158, 0, 9, 42, 27, 7, 182, 1, 30]
abbrev dktX4_line_2 : List UInt8 := dkwX4_line_2 ++ dktX4_line_3
def dkwX4_line_1 : List UInt8 := [182, 0, 101, 172, 42, 3, 181, 1, 20, 42, 27, 3, 182, 1, 30, 42, 27, 6, 182, 0, 149, 5]
abbrev dktX4_line_1 : List UInt8 := dkwX4_line_1 ++ dktX4_line_2
def dkwX4_line_0 : List UInt8 := [42, 3, 181, 0, 84, 27, 3, 42, 180, 0, 7, 3, 46, 4, 100, 184, 0, 209, 154, 0, 9, 42, 4]
abbrev dktX4_line_0 : List UInt8 := dkwX4_line_0 ++ dktX4_line_1
theorem dksX4_line_0 : cX4_line.data.toList.drop 0 = dktX4_line_0 := by decide +kernel
theorem dksX4_line_1 : cX4_line.data.toList.drop 23 = dktX4_line_1 := dk_seg dksX4_line_0 23 rfl rfl
theorem dksX4_line_2 : cX4_line.data.toList.drop 45 = dktX4_line_2 := dk_seg dksX4_line_1 22 rfl rfl
theorem dksX4_line_3 : cX4_line.data.toList.drop 69 = dktX4_line_3 := dk_seg dksX4_line_2 24 rfl rfl
theorem dksX4_line_4 : cX4_line.data.toList.drop 93 = dktX4_line_4 := dk_seg dksX4_line_3 24 rfl rfl
theorem dX4_line_0 : decode cX4_line 0 = .ok (.aload_n 0, 1) := dk_42 (dk_at dksX4_line_0 0 rfl rfl)
theorem dX4_line_1 : decode cX4_line 1 = .ok (.iconst 0, 1) := dk_3 (dk_at dksX4_line_0 1 rfl rfl)
theorem dX4_line_2 : decode cX4_line 2 = .ok (.putfield 84, 3) := dk_181 0 84 (dk_at dksX4_line_0 2 rfl rfl)
theorem dX4_line_5 : decode cX4_line 5 = .ok (.iload_n 1, 1) := dk_27 (dk_at dksX4_line_0 5 rfl rfl)
theorem dX4_line_6 : decode cX4_line 6 = .ok (.iconst 0, 1) := dk_3 (dk_at dksX4_line_0 6 rfl rfl)
theorem dX4_line_7 : decode cX4_line 7 = .ok (.aload_n 0, 1) := dk_42 (dk_at dksX4_line_0 7 rfl rfl)
theorem dX4_line_8 : decode cX4_line 8 = .ok (.getfield 7, 3) := dk_180 0 7 (dk_at dksX4_line_0 8 rfl rfl)
theorem dX4_line_11 : decode cX4_line 11 = .ok (.iconst 0, 1) := dk_3 (dk_at dksX4_line_0 11 rfl rfl)
theorem dX4_line_12 : decode cX4_line 12 = .ok (.iaload, 1) := dk_46 (dk_at dksX4_line_0 12 rfl rfl)
theorem dX4_line_13 : decode cX4_line 13 = .ok (.iconst 1, 1) := dk_4 (dk_at dksX4_line_0 13 rfl rfl)
theorem dX4_line_14 : decode cX4_line 14 = .ok (.isub, 1) := dk_100 (dk_at dksX4_line_0 14 rfl rfl)
theorem dX4_line_15 : decode cX4_line 15 = .ok (.invokestatic 209, 3) := dk_184 0 209 (dk_at dksX4_line_0 15 rfl rfl)
theorem dX4_line_18 : decode cX4_line 18 = .ok (.ifCond .ne 9, 3) := dk_154 0 9 (dk_at dksX4_line_0 18 rfl rfl)
theorem dX4_line_21 : decode cX4_line 21 = .ok (.aload_n 0, 1) := dk_42 (dk_at dksX4_line_0 21 rfl rfl)
theorem dX4_line_22 : decode cX4_line 22 = .ok (.iconst 1, 1) := dk_4 (dk_at dksX4_line_0 22 rfl rfl)
theorem dX4_line_23 : decode cX4_line 23 = .ok (.invokevirtual 101, 3) := dk_182 0 101 (dk_at dksX4_line_1 0 rfl rfl)
theorem dX4_line_26 : decode cX4_line 26 = .ok (.ireturn, 1) := dk_172 (dk_at dksX4_line_1 3 rfl rfl)
theorem dX4_line_27 : decode cX4_line 27 = .ok (.aload_n 0, 1) := dk_42 (dk_at dksX4_line_1 4 rfl rfl)
theorem dX4_line_28 : decode cX4_line 28 = .ok (.iconst 0, 1) := dk_3 (dk_at dksX4_line_1 5 rfl rfl)
theorem dX4_line_29 : decode cX4_line 29 = .ok (.putfield 276, 3) := dk_181 1 20 (dk_at dksX4_line_1 6 rfl rfl)
theorem dX4_line_32 : decode cX4_line 32 = .ok (.aload_n 0, 1) := dk_42 (dk_at dksX4_line_1 9 rfl rfl)
theorem dX4_line_33 : decode cX4_line 33 = .ok (.iload_n 1, 1) := dk_27 (dk_at dksX4_line_1 10 rfl rfl)
theorem dX4_line_34 : decode cX4_line 34 = .ok (.iconst 0, 1) := dk_3 (dk_at dksX4_line_1 11 rfl rfl)
theorem dX4_line_35 : decode cX4_line 35 = .ok (.invokevirtual 286, 3) := dk_182 1 30 (dk_at dksX4_line_1 12 rfl rfl)
theorem dX4_line_38 : decode cX4_line 38 = .ok (.aload_n 0, 1) := dk_42 (dk_at dksX4_line_1 15 rfl rfl)
theorem dX4_line_39 : decode cX4_line 39 = .ok (.iload_n 1, 1) := dk_27 (dk_at dksX4_line_1 16 rfl rfl)
theorem dX4_line_40 : decode cX4_line 40 = .ok (.iconst 3, 1) := dk_6 (dk_at dksX4_line_1 17 rfl rfl)
theorem dX4_line_41 : decode cX4_line 41 = .ok (.invokevirtual 149, 3) := dk_182 0 149 (dk_at dksX4_line_1 18 rfl rfl)
theorem dX4_line_44 : decode cX4_line 44 = .ok (.iconst 2, 1) := dk_5 (dk_at dksX4_line_1 21 rfl rfl)
theorem dX4_line_45 : decode cX4_line 45 = .ok (.if_icmp .ne 9, 3) := dk_160 0 9 (dk_at dksX4_line_2 0 rfl rfl)
theorem dX4_line_48 : decode cX4_line 48 = .ok (.aload_n 0, 1) := dk_42 (dk_at dksX4_line_2 3 rfl rfl)
theorem dX4_line_49 : decode cX4_line 49 = .ok (.bipush 33, 2) := dk_16 33 (dk_at dksX4_line_2 4 rfl rfl)
theorem dX4_line_51 : decode cX4_line 51 = .ok (.invokevirtual 279, 3) := dk_182 1 23 (dk_at dksX4_line_2 6 rfl rfl)
theorem dX4_line_54 : decode cX4_line 54 = .ok (.aload_n 0, 1) := dk_42 (dk_at dksX4_line_2 9 rfl rfl)
theorem dX4_line_55 : decode cX4_line 55 = .ok (.iload_n 1, 1) := dk_27 (dk_at dksX4_line_2 10 rfl rfl)
theorem dX4_line_56 : decode cX4_line 56 = .ok (.iconst 3, 1) := dk_6 (dk_at dksX4_line_2 11 rfl rfl)
theorem dX4_line_57 : decode cX4_line 57 = .ok (.invokevirtual 149, 3) := dk_182 0 149 (dk_at dksX4_line_2 12 rfl rfl)
theorem dX4_line_60 : decode cX4_line 60 = .ok (.ifCond .le 9, 3) := dk_158 0 9 (dk_at dksX4_line_2 15 rfl rfl)
theorem dX4_line_63 : decode cX4_line 63 = .ok (.aload_n 0, 1) := dk_42 (dk_at dksX4_line_2 18 rfl rfl)
theorem dX4_line_64 : decode cX4_line 64 = .ok (.iload_n 1, 1) := dk_27 (dk_at dksX4_line_2 19 rfl rfl)
theorem dX4_line_65 : decode cX4_line 65 = .ok (.iconst 4, 1) := dk_7 (dk_at dksX4_line_2 20 rfl rfl)
theorem dX4_line_66 : decode cX4_line 66 = .ok (.invokevirtual 286, 3) := dk_182 1 30 (dk_at dksX4_line_2 21 rfl rfl)
theorem dX4_line_69 : decode cX4_line 69 = .ok (.aload_n 0, 1) := dk_42 (dk_at dksX4_line_3 0 rfl rfl)
theorem dX4_line_70 : decode cX4_line 70 = .ok (.bipush 62, 2) := dk_16 62 (dk_at dksX4_line_3 1 rfl rfl)
theorem dX4_line_72 : decode cX4_line 72 = .ok (.invokevirtual 279, 3) := dk_182 1 23 (dk_at dksX4_line_3 3 rfl rfl)
theorem dX4_line_75 : decode cX4_line 75 = .ok (.aload_n 0, 1) := dk_42 (dk_at dksX4_line_3 6 rfl rfl)
theorem dX4_line_76 : decode cX4_line 76 = .ok (.iload_n 1, 1) := dk_27 (dk_at dksX4_line_3 7 rfl rfl)
theorem dX4_line_77 : decode cX4_line 77 = .ok (.bipush 7, 2) := dk_16 7 (dk_at dksX4_line_3 8 rfl rfl)
theorem dX4_line_79 : decode cX4_line 79 = .ok (.invokevirtual 286, 3) := dk_182 1 30 (dk_at dksX4_line_3 10 rfl rfl)
theorem dX4_line_82 : decode cX4_line 82 = .ok (.aload_n 0, 1) := dk_42 (dk_at dksX4_line_3 13 rfl rfl)
theorem dX4_line_83 : decode cX4_line 83 = .ok (.bipush 42, 2) := dk_16 42 (dk_at dksX4_line_3 14 rfl rfl)
theorem dX4_line_85 : decode cX4_line 85 = .ok (.invokevirtual 279, 3) := dk_182 1 23 (dk_at dksX4_line_3 16 rfl rfl)
theorem dX4_line_88 : decode cX4_line 88 = .ok (.aload_n 0, 1) := dk_42 (dk_at dksX4_line_3 19 rfl rfl)
theorem dX4_line_89 : decode cX4_line 89 = .ok (.bipush 48, 2) := dk_16 48 (dk_at dksX4_line_3 20 rfl rfl)
theorem dX4_line_91 : decode cX4_line 91 = .ok (.aload_n 0, 1) := dk_42 (dk_at dksX4_line_3 22 rfl rfl)
theorem dX4_line_92 : decode cX4_line 92 = .ok (.iload_n 1, 1) := dk_27 (dk_at dksX4_line_3 23 rfl rfl)
theorem dX4_line_93 : decode cX4_line 93 = .ok (.bipush 10, 2) := dk_16 10 (dk_at dksX4_line_4 0 rfl rfl)
theorem dX4_line_95 : decode cX4_line 95 = .ok (.invokevirtual 149, 3) := dk_182 0 149 (dk_at dksX4_line_4 2 rfl rfl)
theorem dX4_line_98 : decode cX4_line 98 = .ok (.iadd, 1) := dk_96 (dk_at dksX4_line_4 5 rfl rfl)
theorem dX4_line_99 : decode cX4_line 99 = .ok (.invokevirtual 279, 3) := dk_182 1 23 (dk_at dksX4_line_4 6 rfl rfl)
theorem dX4_line_102 : decode cX4_line 102 = .ok (.aload_n 0, 1) := dk_42 (dk_at dksX4_line_4 9 rfl rfl)
theorem dX4_line_103 : decode cX4_line 103 = .ok (.getfield 276, 3) := dk_180 1 20 (dk_at dksX4_line_4 10 rfl rfl)
theorem dX4_line_106 : decode cX4_line 106 = .ok (.ireturn, 1) := dk_172 (dk_at dksX4_line_4 13 rfl rfl)
abbrev cX4_writesPattern : ByteArray := prog_14_method_70_code
def yX4_writesPattern : MethodName := ⟨RX4, "writesPattern", "(II)V"⟩
def dkwX4_writesPattern_1 : List UInt8 := [27, 28, 5, 96, 182, 0, 149, 182, 1, 27, 177]
abbrev dktX4_writesPattern_1 : List UInt8 := dkwX4_writesPattern_1 ++ []
def dkwX4_writesPattern_0 : List UInt8 := [42, 42, 27, 28, 182, 0, 149, 182, 1, 23, 42, 42, 27, 28, 4, 96, 182, 0, 149, 182, 1, 27, 42, 42]
abbrev dktX4_writesPattern_0 : List UInt8 := dkwX4_writesPattern_0 ++ dktX4_writesPattern_1
theorem dksX4_writesPattern_0 : cX4_writesPattern.data.toList.drop 0 = dktX4_writesPattern_0 := by decide +kernel
theorem dksX4_writesPattern_1 : cX4_writesPattern.data.toList.drop 24 = dktX4_writesPattern_1 := dk_seg dksX4_writesPattern_0 24 rfl rfl
theorem dX4_writesPattern_0 : decode cX4_writesPattern 0 = .ok (.aload_n 0, 1) := dk_42 (dk_at dksX4_writesPattern_0 0 rfl rfl)
theorem dX4_writesPattern_1 : decode cX4_writesPattern 1 = .ok (.aload_n 0, 1) := dk_42 (dk_at dksX4_writesPattern_0 1 rfl rfl)
theorem dX4_writesPattern_2 : decode cX4_writesPattern 2 = .ok (.iload_n 1, 1) := dk_27 (dk_at dksX4_writesPattern_0 2 rfl rfl)
theorem dX4_writesPattern_3 : decode cX4_writesPattern 3 = .ok (.iload_n 2, 1) := dk_28 (dk_at dksX4_writesPattern_0 3 rfl rfl)
theorem dX4_writesPattern_4 : decode cX4_writesPattern 4 = .ok (.invokevirtual 149, 3) := dk_182 0 149 (dk_at dksX4_writesPattern_0 4 rfl rfl)
theorem dX4_writesPattern_7 : decode cX4_writesPattern 7 = .ok (.invokevirtual 279, 3) := dk_182 1 23 (dk_at dksX4_writesPattern_0 7 rfl rfl)
theorem dX4_writesPattern_10 : decode cX4_writesPattern 10 = .ok (.aload_n 0, 1) := dk_42 (dk_at dksX4_writesPattern_0 10 rfl rfl)
theorem dX4_writesPattern_11 : decode cX4_writesPattern 11 = .ok (.aload_n 0, 1) := dk_42 (dk_at dksX4_writesPattern_0 11 rfl rfl)
theorem dX4_writesPattern_12 : decode cX4_writesPattern 12 = .ok (.iload_n 1, 1) := dk_27 (dk_at dksX4_writesPattern_0 12 rfl rfl)
theorem dX4_writesPattern_13 : decode cX4_writesPattern 13 = .ok (.iload_n 2, 1) := dk_28 (dk_at dksX4_writesPattern_0 13 rfl rfl)
theorem dX4_writesPattern_14 : decode cX4_writesPattern 14 = .ok (.iconst 1, 1) := dk_4 (dk_at dksX4_writesPattern_0 14 rfl rfl)
theorem dX4_writesPattern_15 : decode cX4_writesPattern 15 = .ok (.iadd, 1) := dk_96 (dk_at dksX4_writesPattern_0 15 rfl rfl)
theorem dX4_writesPattern_16 : decode cX4_writesPattern 16 = .ok (.invokevirtual 149, 3) := dk_182 0 149 (dk_at dksX4_writesPattern_0 16 rfl rfl)
theorem dX4_writesPattern_19 : decode cX4_writesPattern 19 = .ok (.invokevirtual 283, 3) := dk_182 1 27 (dk_at dksX4_writesPattern_0 19 rfl rfl)
theorem dX4_writesPattern_22 : decode cX4_writesPattern 22 = .ok (.aload_n 0, 1) := dk_42 (dk_at dksX4_writesPattern_0 22 rfl rfl)
theorem dX4_writesPattern_23 : decode cX4_writesPattern 23 = .ok (.aload_n 0, 1) := dk_42 (dk_at dksX4_writesPattern_0 23 rfl rfl)
theorem dX4_writesPattern_24 : decode cX4_writesPattern 24 = .ok (.iload_n 1, 1) := dk_27 (dk_at dksX4_writesPattern_1 0 rfl rfl)
theorem dX4_writesPattern_25 : decode cX4_writesPattern 25 = .ok (.iload_n 2, 1) := dk_28 (dk_at dksX4_writesPattern_1 1 rfl rfl)
theorem dX4_writesPattern_26 : decode cX4_writesPattern 26 = .ok (.iconst 2, 1) := dk_5 (dk_at dksX4_writesPattern_1 2 rfl rfl)
theorem dX4_writesPattern_27 : decode cX4_writesPattern 27 = .ok (.iadd, 1) := dk_96 (dk_at dksX4_writesPattern_1 3 rfl rfl)
theorem dX4_writesPattern_28 : decode cX4_writesPattern 28 = .ok (.invokevirtual 149, 3) := dk_182 0 149 (dk_at dksX4_writesPattern_1 4 rfl rfl)
theorem dX4_writesPattern_31 : decode cX4_writesPattern 31 = .ok (.invokevirtual 283, 3) := dk_182 1 27 (dk_at dksX4_writesPattern_1 7 rfl rfl)
theorem dX4_writesPattern_34 : decode cX4_writesPattern 34 = .ok (.return_, 1) := dk_177 (dk_at dksX4_writesPattern_1 10 rfl rfl)
abbrev cX4_writes : ByteArray := prog_14_method_67_code
def yX4_writes : MethodName := ⟨RX4, "writes", "(I)V"⟩
def dkwX4_writes_0 : List UInt8 := [42, 180, 0, 33, 42, 180, 1, 20, 27, 79, 42, 89, 180, 1, 20, 4, 96, 181, 1, 20, 177]
abbrev dktX4_writes_0 : List UInt8 := dkwX4_writes_0 ++ []
theorem dksX4_writes_0 : cX4_writes.data.toList.drop 0 = dktX4_writes_0 := by decide +kernel
theorem dX4_writes_0 : decode cX4_writes 0 = .ok (.aload_n 0, 1) := dk_42 (dk_at dksX4_writes_0 0 rfl rfl)
theorem dX4_writes_1 : decode cX4_writes 1 = .ok (.getfield 33, 3) := dk_180 0 33 (dk_at dksX4_writes_0 1 rfl rfl)
theorem dX4_writes_4 : decode cX4_writes 4 = .ok (.aload_n 0, 1) := dk_42 (dk_at dksX4_writes_0 4 rfl rfl)
theorem dX4_writes_5 : decode cX4_writes 5 = .ok (.getfield 276, 3) := dk_180 1 20 (dk_at dksX4_writes_0 5 rfl rfl)
theorem dX4_writes_8 : decode cX4_writes 8 = .ok (.iload_n 1, 1) := dk_27 (dk_at dksX4_writes_0 8 rfl rfl)
theorem dX4_writes_9 : decode cX4_writes 9 = .ok (.iastore, 1) := dk_79 (dk_at dksX4_writes_0 9 rfl rfl)
theorem dX4_writes_10 : decode cX4_writes 10 = .ok (.aload_n 0, 1) := dk_42 (dk_at dksX4_writes_0 10 rfl rfl)
theorem dX4_writes_11 : decode cX4_writes 11 = .ok (.dup, 1) := dk_89 (dk_at dksX4_writes_0 11 rfl rfl)
theorem dX4_writes_12 : decode cX4_writes 12 = .ok (.getfield 276, 3) := dk_180 1 20 (dk_at dksX4_writes_0 12 rfl rfl)
theorem dX4_writes_15 : decode cX4_writes 15 = .ok (.iconst 1, 1) := dk_4 (dk_at dksX4_writes_0 15 rfl rfl)
theorem dX4_writes_16 : decode cX4_writes 16 = .ok (.iadd, 1) := dk_96 (dk_at dksX4_writes_0 16 rfl rfl)
theorem dX4_writes_17 : decode cX4_writes 17 = .ok (.putfield 276, 3) := dk_181 1 20 (dk_at dksX4_writes_0 17 rfl rfl)
theorem dX4_writes_20 : decode cX4_writes 20 = .ok (.return_, 1) := dk_177 (dk_at dksX4_writes_0 20 rfl rfl)
abbrev cX4_writesTerm : ByteArray := prog_14_method_69_code
def yX4_writesTerm : MethodName := ⟨RX4, "writesTerm", "(I)V"⟩
def dkwX4_writesTerm_1 : List UInt8 := [177]
abbrev dktX4_writesTerm_1 : List UInt8 := dkwX4_writesTerm_1 ++ []
def dkwX4_writesTerm_0 : List UInt8 := [42, 27, 16, 10, 162, 0, 10, 16, 48, 27, 96, 167, 0, 10, 16, 88, 27, 96, 16, 10, 100, 182, 1, 23]
abbrev dktX4_writesTerm_0 : List UInt8 := dkwX4_writesTerm_0 ++ dktX4_writesTerm_1
theorem dksX4_writesTerm_0 : cX4_writesTerm.data.toList.drop 0 = dktX4_writesTerm_0 := by decide +kernel
theorem dksX4_writesTerm_1 : cX4_writesTerm.data.toList.drop 24 = dktX4_writesTerm_1 := dk_seg dksX4_writesTerm_0 24 rfl rfl
theorem dX4_writesTerm_0 : decode cX4_writesTerm 0 = .ok (.aload_n 0, 1) := dk_42 (dk_at dksX4_writesTerm_0 0 rfl rfl)
theorem dX4_writesTerm_1 : decode cX4_writesTerm 1 = .ok (.iload_n 1, 1) := dk_27 (dk_at dksX4_writesTerm_0 1 rfl rfl)
theorem dX4_writesTerm_2 : decode cX4_writesTerm 2 = .ok (.bipush 10, 2) := dk_16 10 (dk_at dksX4_writesTerm_0 2 rfl rfl)
theorem dX4_writesTerm_4 : decode cX4_writesTerm 4 = .ok (.if_icmp .ge 10, 3) := dk_162 0 10 (dk_at dksX4_writesTerm_0 4 rfl rfl)
theorem dX4_writesTerm_7 : decode cX4_writesTerm 7 = .ok (.bipush 48, 2) := dk_16 48 (dk_at dksX4_writesTerm_0 7 rfl rfl)
theorem dX4_writesTerm_9 : decode cX4_writesTerm 9 = .ok (.iload_n 1, 1) := dk_27 (dk_at dksX4_writesTerm_0 9 rfl rfl)
theorem dX4_writesTerm_10 : decode cX4_writesTerm 10 = .ok (.iadd, 1) := dk_96 (dk_at dksX4_writesTerm_0 10 rfl rfl)
theorem dX4_writesTerm_11 : decode cX4_writesTerm 11 = .ok (.goto 10, 3) := dk_167 0 10 (dk_at dksX4_writesTerm_0 11 rfl rfl)
theorem dX4_writesTerm_14 : decode cX4_writesTerm 14 = .ok (.bipush 88, 2) := dk_16 88 (dk_at dksX4_writesTerm_0 14 rfl rfl)
theorem dX4_writesTerm_16 : decode cX4_writesTerm 16 = .ok (.iload_n 1, 1) := dk_27 (dk_at dksX4_writesTerm_0 16 rfl rfl)
theorem dX4_writesTerm_17 : decode cX4_writesTerm 17 = .ok (.iadd, 1) := dk_96 (dk_at dksX4_writesTerm_0 17 rfl rfl)
theorem dX4_writesTerm_18 : decode cX4_writesTerm 18 = .ok (.bipush 10, 2) := dk_16 10 (dk_at dksX4_writesTerm_0 18 rfl rfl)
theorem dX4_writesTerm_20 : decode cX4_writesTerm 20 = .ok (.isub, 1) := dk_100 (dk_at dksX4_writesTerm_0 20 rfl rfl)
theorem dX4_writesTerm_21 : decode cX4_writesTerm 21 = .ok (.invokevirtual 279, 3) := dk_182 1 23 (dk_at dksX4_writesTerm_0 21 rfl rfl)
theorem dX4_writesTerm_24 : decode cX4_writesTerm 24 = .ok (.return_, 1) := dk_177 (dk_at dksX4_writesTerm_1 0 rfl rfl)
abbrev cX4_factLine : ByteArray := prog_14_method_72_code
def yX4_factLine : MethodName := ⟨RX4, "factLine", "(I)I"⟩
def dkwX4_factLine_8 : List UInt8 := [182, 1, 23, 42, 42, 29, 5, 182, 0, 120, 182, 1, 33, 132, 3, 1, 167, 255, 160, 42, 180, 1, 20, 172]
abbrev dktX4_factLine_8 : List UInt8 := dkwX4_factLine_8 ++ []
def dkwX4_factLine_7 : List UInt8 := [182, 0, 120, 182, 1, 33, 42, 29, 5, 182, 0, 120, 2, 160, 0, 6, 167, 0, 19, 42, 16, 44]
abbrev dktX4_factLine_7 : List UInt8 := dkwX4_factLine_7 ++ dktX4_factLine_8
def dkwX4_factLine_6 : List UInt8 := [16, 48, 42, 29, 3, 182, 0, 120, 96, 182, 1, 23, 42, 16, 44, 182, 1, 23, 42, 42, 29, 4]
abbrev dktX4_factLine_6 : List UInt8 := dkwX4_factLine_6 ++ dktX4_factLine_7
def dkwX4_factLine_5 : List UInt8 := [27, 182, 0, 124, 154, 0, 6, 167, 0, 73, 42, 16, 32, 182, 1, 23, 42, 16, 114, 182, 1, 23, 42]
abbrev dktX4_factLine_5 : List UInt8 := dkwX4_factLine_5 ++ dktX4_factLine_6
def dkwX4_factLine_4 : List UInt8 := [160, 0, 9, 42, 16, 33, 182, 1, 23, 3, 62, 29, 42, 180, 0, 7, 16, 6, 46, 162, 0, 91, 42, 29]
abbrev dktX4_factLine_4 : List UInt8 := dkwX4_factLine_4 ++ dktX4_factLine_5
def dkwX4_factLine_3 : List UInt8 := [180, 0, 7, 17, 0, 155, 28, 96, 46, 96, 182, 1, 23, 42, 180, 0, 7, 17, 0, 175, 28, 96, 46, 4]
abbrev dktX4_factLine_3 : List UInt8 := dkwX4_factLine_3 ++ dktX4_factLine_4
def dkwX4_factLine_2 : List UInt8 := [182, 1, 23, 42, 16, 48, 42, 180, 0, 7, 17, 0, 135, 28, 96, 46, 96, 182, 1, 23, 42, 16, 48, 42]
abbrev dktX4_factLine_2 : List UInt8 := dkwX4_factLine_2 ++ dktX4_factLine_3
def dkwX4_factLine_1 : List UInt8 := [181, 1, 20, 42, 27, 182, 1, 33, 42, 16, 58, 182, 1, 23, 42, 42, 180, 0, 7, 16, 115, 28, 96, 46]
abbrev dktX4_factLine_1 : List UInt8 := dkwX4_factLine_1 ++ dktX4_factLine_2
def dkwX4_factLine_0 : List UInt8 := [42, 3, 181, 0, 84, 42, 27, 182, 0, 128, 61, 28, 2, 160, 0, 9, 42, 4, 182, 0, 101, 172, 42, 3]
abbrev dktX4_factLine_0 : List UInt8 := dkwX4_factLine_0 ++ dktX4_factLine_1
theorem dksX4_factLine_0 : cX4_factLine.data.toList.drop 0 = dktX4_factLine_0 := by decide +kernel
theorem dksX4_factLine_1 : cX4_factLine.data.toList.drop 24 = dktX4_factLine_1 := dk_seg dksX4_factLine_0 24 rfl rfl
theorem dksX4_factLine_2 : cX4_factLine.data.toList.drop 48 = dktX4_factLine_2 := dk_seg dksX4_factLine_1 24 rfl rfl
theorem dksX4_factLine_3 : cX4_factLine.data.toList.drop 72 = dktX4_factLine_3 := dk_seg dksX4_factLine_2 24 rfl rfl
theorem dksX4_factLine_4 : cX4_factLine.data.toList.drop 96 = dktX4_factLine_4 := dk_seg dksX4_factLine_3 24 rfl rfl
theorem dksX4_factLine_5 : cX4_factLine.data.toList.drop 120 = dktX4_factLine_5 := dk_seg dksX4_factLine_4 24 rfl rfl
theorem dksX4_factLine_6 : cX4_factLine.data.toList.drop 143 = dktX4_factLine_6 := dk_seg dksX4_factLine_5 23 rfl rfl
theorem dksX4_factLine_7 : cX4_factLine.data.toList.drop 165 = dktX4_factLine_7 := dk_seg dksX4_factLine_6 22 rfl rfl
theorem dksX4_factLine_8 : cX4_factLine.data.toList.drop 187 = dktX4_factLine_8 := dk_seg dksX4_factLine_7 22 rfl rfl
theorem dX4_factLine_0 : decode cX4_factLine 0 = .ok (.aload_n 0, 1) := dk_42 (dk_at dksX4_factLine_0 0 rfl rfl)
theorem dX4_factLine_1 : decode cX4_factLine 1 = .ok (.iconst 0, 1) := dk_3 (dk_at dksX4_factLine_0 1 rfl rfl)
theorem dX4_factLine_2 : decode cX4_factLine 2 = .ok (.putfield 84, 3) := dk_181 0 84 (dk_at dksX4_factLine_0 2 rfl rfl)
theorem dX4_factLine_5 : decode cX4_factLine 5 = .ok (.aload_n 0, 1) := dk_42 (dk_at dksX4_factLine_0 5 rfl rfl)
theorem dX4_factLine_6 : decode cX4_factLine 6 = .ok (.iload_n 1, 1) := dk_27 (dk_at dksX4_factLine_0 6 rfl rfl)
theorem dX4_factLine_7 : decode cX4_factLine 7 = .ok (.invokevirtual 128, 3) := dk_182 0 128 (dk_at dksX4_factLine_0 7 rfl rfl)
theorem dX4_factLine_10 : decode cX4_factLine 10 = .ok (.istore_n 2, 1) := dk_61 (dk_at dksX4_factLine_0 10 rfl rfl)
theorem dX4_factLine_11 : decode cX4_factLine 11 = .ok (.iload_n 2, 1) := dk_28 (dk_at dksX4_factLine_0 11 rfl rfl)
theorem dX4_factLine_12 : decode cX4_factLine 12 = .ok (.iconst (-1), 1) := dk_2 (dk_at dksX4_factLine_0 12 rfl rfl)
theorem dX4_factLine_13 : decode cX4_factLine 13 = .ok (.if_icmp .ne 9, 3) := dk_160 0 9 (dk_at dksX4_factLine_0 13 rfl rfl)
theorem dX4_factLine_16 : decode cX4_factLine 16 = .ok (.aload_n 0, 1) := dk_42 (dk_at dksX4_factLine_0 16 rfl rfl)
theorem dX4_factLine_17 : decode cX4_factLine 17 = .ok (.iconst 1, 1) := dk_4 (dk_at dksX4_factLine_0 17 rfl rfl)
theorem dX4_factLine_18 : decode cX4_factLine 18 = .ok (.invokevirtual 101, 3) := dk_182 0 101 (dk_at dksX4_factLine_0 18 rfl rfl)
theorem dX4_factLine_21 : decode cX4_factLine 21 = .ok (.ireturn, 1) := dk_172 (dk_at dksX4_factLine_0 21 rfl rfl)
theorem dX4_factLine_22 : decode cX4_factLine 22 = .ok (.aload_n 0, 1) := dk_42 (dk_at dksX4_factLine_0 22 rfl rfl)
theorem dX4_factLine_23 : decode cX4_factLine 23 = .ok (.iconst 0, 1) := dk_3 (dk_at dksX4_factLine_0 23 rfl rfl)
theorem dX4_factLine_24 : decode cX4_factLine 24 = .ok (.putfield 276, 3) := dk_181 1 20 (dk_at dksX4_factLine_1 0 rfl rfl)
theorem dX4_factLine_27 : decode cX4_factLine 27 = .ok (.aload_n 0, 1) := dk_42 (dk_at dksX4_factLine_1 3 rfl rfl)
theorem dX4_factLine_28 : decode cX4_factLine 28 = .ok (.iload_n 1, 1) := dk_27 (dk_at dksX4_factLine_1 4 rfl rfl)
theorem dX4_factLine_29 : decode cX4_factLine 29 = .ok (.invokevirtual 289, 3) := dk_182 1 33 (dk_at dksX4_factLine_1 5 rfl rfl)
theorem dX4_factLine_32 : decode cX4_factLine 32 = .ok (.aload_n 0, 1) := dk_42 (dk_at dksX4_factLine_1 8 rfl rfl)
theorem dX4_factLine_33 : decode cX4_factLine 33 = .ok (.bipush 58, 2) := dk_16 58 (dk_at dksX4_factLine_1 9 rfl rfl)
theorem dX4_factLine_35 : decode cX4_factLine 35 = .ok (.invokevirtual 279, 3) := dk_182 1 23 (dk_at dksX4_factLine_1 11 rfl rfl)
theorem dX4_factLine_38 : decode cX4_factLine 38 = .ok (.aload_n 0, 1) := dk_42 (dk_at dksX4_factLine_1 14 rfl rfl)
theorem dX4_factLine_39 : decode cX4_factLine 39 = .ok (.aload_n 0, 1) := dk_42 (dk_at dksX4_factLine_1 15 rfl rfl)
theorem dX4_factLine_40 : decode cX4_factLine 40 = .ok (.getfield 7, 3) := dk_180 0 7 (dk_at dksX4_factLine_1 16 rfl rfl)
theorem dX4_factLine_43 : decode cX4_factLine 43 = .ok (.bipush 115, 2) := dk_16 115 (dk_at dksX4_factLine_1 19 rfl rfl)
theorem dX4_factLine_45 : decode cX4_factLine 45 = .ok (.iload_n 2, 1) := dk_28 (dk_at dksX4_factLine_1 21 rfl rfl)
theorem dX4_factLine_46 : decode cX4_factLine 46 = .ok (.iadd, 1) := dk_96 (dk_at dksX4_factLine_1 22 rfl rfl)
theorem dX4_factLine_47 : decode cX4_factLine 47 = .ok (.iaload, 1) := dk_46 (dk_at dksX4_factLine_1 23 rfl rfl)
theorem dX4_factLine_48 : decode cX4_factLine 48 = .ok (.invokevirtual 279, 3) := dk_182 1 23 (dk_at dksX4_factLine_2 0 rfl rfl)
theorem dX4_factLine_51 : decode cX4_factLine 51 = .ok (.aload_n 0, 1) := dk_42 (dk_at dksX4_factLine_2 3 rfl rfl)
theorem dX4_factLine_52 : decode cX4_factLine 52 = .ok (.bipush 48, 2) := dk_16 48 (dk_at dksX4_factLine_2 4 rfl rfl)
theorem dX4_factLine_54 : decode cX4_factLine 54 = .ok (.aload_n 0, 1) := dk_42 (dk_at dksX4_factLine_2 6 rfl rfl)
theorem dX4_factLine_55 : decode cX4_factLine 55 = .ok (.getfield 7, 3) := dk_180 0 7 (dk_at dksX4_factLine_2 7 rfl rfl)
theorem dX4_factLine_58 : decode cX4_factLine 58 = .ok (.sipush 135, 3) := dk_17 0 135 (dk_at dksX4_factLine_2 10 rfl rfl)
theorem dX4_factLine_61 : decode cX4_factLine 61 = .ok (.iload_n 2, 1) := dk_28 (dk_at dksX4_factLine_2 13 rfl rfl)
theorem dX4_factLine_62 : decode cX4_factLine 62 = .ok (.iadd, 1) := dk_96 (dk_at dksX4_factLine_2 14 rfl rfl)
theorem dX4_factLine_63 : decode cX4_factLine 63 = .ok (.iaload, 1) := dk_46 (dk_at dksX4_factLine_2 15 rfl rfl)
theorem dX4_factLine_64 : decode cX4_factLine 64 = .ok (.iadd, 1) := dk_96 (dk_at dksX4_factLine_2 16 rfl rfl)
theorem dX4_factLine_65 : decode cX4_factLine 65 = .ok (.invokevirtual 279, 3) := dk_182 1 23 (dk_at dksX4_factLine_2 17 rfl rfl)
theorem dX4_factLine_68 : decode cX4_factLine 68 = .ok (.aload_n 0, 1) := dk_42 (dk_at dksX4_factLine_2 20 rfl rfl)
theorem dX4_factLine_69 : decode cX4_factLine 69 = .ok (.bipush 48, 2) := dk_16 48 (dk_at dksX4_factLine_2 21 rfl rfl)
theorem dX4_factLine_71 : decode cX4_factLine 71 = .ok (.aload_n 0, 1) := dk_42 (dk_at dksX4_factLine_2 23 rfl rfl)
theorem dX4_factLine_72 : decode cX4_factLine 72 = .ok (.getfield 7, 3) := dk_180 0 7 (dk_at dksX4_factLine_3 0 rfl rfl)
theorem dX4_factLine_75 : decode cX4_factLine 75 = .ok (.sipush 155, 3) := dk_17 0 155 (dk_at dksX4_factLine_3 3 rfl rfl)
theorem dX4_factLine_78 : decode cX4_factLine 78 = .ok (.iload_n 2, 1) := dk_28 (dk_at dksX4_factLine_3 6 rfl rfl)
theorem dX4_factLine_79 : decode cX4_factLine 79 = .ok (.iadd, 1) := dk_96 (dk_at dksX4_factLine_3 7 rfl rfl)
theorem dX4_factLine_80 : decode cX4_factLine 80 = .ok (.iaload, 1) := dk_46 (dk_at dksX4_factLine_3 8 rfl rfl)
theorem dX4_factLine_81 : decode cX4_factLine 81 = .ok (.iadd, 1) := dk_96 (dk_at dksX4_factLine_3 9 rfl rfl)
theorem dX4_factLine_82 : decode cX4_factLine 82 = .ok (.invokevirtual 279, 3) := dk_182 1 23 (dk_at dksX4_factLine_3 10 rfl rfl)
theorem dX4_factLine_85 : decode cX4_factLine 85 = .ok (.aload_n 0, 1) := dk_42 (dk_at dksX4_factLine_3 13 rfl rfl)
theorem dX4_factLine_86 : decode cX4_factLine 86 = .ok (.getfield 7, 3) := dk_180 0 7 (dk_at dksX4_factLine_3 14 rfl rfl)
theorem dX4_factLine_89 : decode cX4_factLine 89 = .ok (.sipush 175, 3) := dk_17 0 175 (dk_at dksX4_factLine_3 17 rfl rfl)
theorem dX4_factLine_92 : decode cX4_factLine 92 = .ok (.iload_n 2, 1) := dk_28 (dk_at dksX4_factLine_3 20 rfl rfl)
theorem dX4_factLine_93 : decode cX4_factLine 93 = .ok (.iadd, 1) := dk_96 (dk_at dksX4_factLine_3 21 rfl rfl)
theorem dX4_factLine_94 : decode cX4_factLine 94 = .ok (.iaload, 1) := dk_46 (dk_at dksX4_factLine_3 22 rfl rfl)
theorem dX4_factLine_95 : decode cX4_factLine 95 = .ok (.iconst 1, 1) := dk_4 (dk_at dksX4_factLine_3 23 rfl rfl)
theorem dX4_factLine_96 : decode cX4_factLine 96 = .ok (.if_icmp .ne 9, 3) := dk_160 0 9 (dk_at dksX4_factLine_4 0 rfl rfl)
theorem dX4_factLine_99 : decode cX4_factLine 99 = .ok (.aload_n 0, 1) := dk_42 (dk_at dksX4_factLine_4 3 rfl rfl)
theorem dX4_factLine_100 : decode cX4_factLine 100 = .ok (.bipush 33, 2) := dk_16 33 (dk_at dksX4_factLine_4 4 rfl rfl)
theorem dX4_factLine_102 : decode cX4_factLine 102 = .ok (.invokevirtual 279, 3) := dk_182 1 23 (dk_at dksX4_factLine_4 6 rfl rfl)
theorem dX4_factLine_105 : decode cX4_factLine 105 = .ok (.iconst 0, 1) := dk_3 (dk_at dksX4_factLine_4 9 rfl rfl)
theorem dX4_factLine_106 : decode cX4_factLine 106 = .ok (.istore_n 3, 1) := dk_62 (dk_at dksX4_factLine_4 10 rfl rfl)
theorem dX4_factLine_107 : decode cX4_factLine 107 = .ok (.iload_n 3, 1) := dk_29 (dk_at dksX4_factLine_4 11 rfl rfl)
theorem dX4_factLine_108 : decode cX4_factLine 108 = .ok (.aload_n 0, 1) := dk_42 (dk_at dksX4_factLine_4 12 rfl rfl)
theorem dX4_factLine_109 : decode cX4_factLine 109 = .ok (.getfield 7, 3) := dk_180 0 7 (dk_at dksX4_factLine_4 13 rfl rfl)
theorem dX4_factLine_112 : decode cX4_factLine 112 = .ok (.bipush 6, 2) := dk_16 6 (dk_at dksX4_factLine_4 16 rfl rfl)
theorem dX4_factLine_114 : decode cX4_factLine 114 = .ok (.iaload, 1) := dk_46 (dk_at dksX4_factLine_4 18 rfl rfl)
theorem dX4_factLine_115 : decode cX4_factLine 115 = .ok (.if_icmp .ge 91, 3) := dk_162 0 91 (dk_at dksX4_factLine_4 19 rfl rfl)
theorem dX4_factLine_118 : decode cX4_factLine 118 = .ok (.aload_n 0, 1) := dk_42 (dk_at dksX4_factLine_4 22 rfl rfl)
theorem dX4_factLine_119 : decode cX4_factLine 119 = .ok (.iload_n 3, 1) := dk_29 (dk_at dksX4_factLine_4 23 rfl rfl)
theorem dX4_factLine_120 : decode cX4_factLine 120 = .ok (.iload_n 1, 1) := dk_27 (dk_at dksX4_factLine_5 0 rfl rfl)
theorem dX4_factLine_121 : decode cX4_factLine 121 = .ok (.invokevirtual 124, 3) := dk_182 0 124 (dk_at dksX4_factLine_5 1 rfl rfl)
theorem dX4_factLine_124 : decode cX4_factLine 124 = .ok (.ifCond .ne 6, 3) := dk_154 0 6 (dk_at dksX4_factLine_5 4 rfl rfl)
theorem dX4_factLine_127 : decode cX4_factLine 127 = .ok (.goto 73, 3) := dk_167 0 73 (dk_at dksX4_factLine_5 7 rfl rfl)
theorem dX4_factLine_130 : decode cX4_factLine 130 = .ok (.aload_n 0, 1) := dk_42 (dk_at dksX4_factLine_5 10 rfl rfl)
theorem dX4_factLine_131 : decode cX4_factLine 131 = .ok (.bipush 32, 2) := dk_16 32 (dk_at dksX4_factLine_5 11 rfl rfl)
theorem dX4_factLine_133 : decode cX4_factLine 133 = .ok (.invokevirtual 279, 3) := dk_182 1 23 (dk_at dksX4_factLine_5 13 rfl rfl)
theorem dX4_factLine_136 : decode cX4_factLine 136 = .ok (.aload_n 0, 1) := dk_42 (dk_at dksX4_factLine_5 16 rfl rfl)
theorem dX4_factLine_137 : decode cX4_factLine 137 = .ok (.bipush 114, 2) := dk_16 114 (dk_at dksX4_factLine_5 17 rfl rfl)
theorem dX4_factLine_139 : decode cX4_factLine 139 = .ok (.invokevirtual 279, 3) := dk_182 1 23 (dk_at dksX4_factLine_5 19 rfl rfl)
theorem dX4_factLine_142 : decode cX4_factLine 142 = .ok (.aload_n 0, 1) := dk_42 (dk_at dksX4_factLine_5 22 rfl rfl)
theorem dX4_factLine_143 : decode cX4_factLine 143 = .ok (.bipush 48, 2) := dk_16 48 (dk_at dksX4_factLine_6 0 rfl rfl)
theorem dX4_factLine_145 : decode cX4_factLine 145 = .ok (.aload_n 0, 1) := dk_42 (dk_at dksX4_factLine_6 2 rfl rfl)
theorem dX4_factLine_146 : decode cX4_factLine 146 = .ok (.iload_n 3, 1) := dk_29 (dk_at dksX4_factLine_6 3 rfl rfl)
theorem dX4_factLine_147 : decode cX4_factLine 147 = .ok (.iconst 0, 1) := dk_3 (dk_at dksX4_factLine_6 4 rfl rfl)
theorem dX4_factLine_148 : decode cX4_factLine 148 = .ok (.invokevirtual 120, 3) := dk_182 0 120 (dk_at dksX4_factLine_6 5 rfl rfl)
theorem dX4_factLine_151 : decode cX4_factLine 151 = .ok (.iadd, 1) := dk_96 (dk_at dksX4_factLine_6 8 rfl rfl)
theorem dX4_factLine_152 : decode cX4_factLine 152 = .ok (.invokevirtual 279, 3) := dk_182 1 23 (dk_at dksX4_factLine_6 9 rfl rfl)
theorem dX4_factLine_155 : decode cX4_factLine 155 = .ok (.aload_n 0, 1) := dk_42 (dk_at dksX4_factLine_6 12 rfl rfl)
theorem dX4_factLine_156 : decode cX4_factLine 156 = .ok (.bipush 44, 2) := dk_16 44 (dk_at dksX4_factLine_6 13 rfl rfl)
theorem dX4_factLine_158 : decode cX4_factLine 158 = .ok (.invokevirtual 279, 3) := dk_182 1 23 (dk_at dksX4_factLine_6 15 rfl rfl)
theorem dX4_factLine_161 : decode cX4_factLine 161 = .ok (.aload_n 0, 1) := dk_42 (dk_at dksX4_factLine_6 18 rfl rfl)
theorem dX4_factLine_162 : decode cX4_factLine 162 = .ok (.aload_n 0, 1) := dk_42 (dk_at dksX4_factLine_6 19 rfl rfl)
theorem dX4_factLine_163 : decode cX4_factLine 163 = .ok (.iload_n 3, 1) := dk_29 (dk_at dksX4_factLine_6 20 rfl rfl)
theorem dX4_factLine_164 : decode cX4_factLine 164 = .ok (.iconst 1, 1) := dk_4 (dk_at dksX4_factLine_6 21 rfl rfl)
theorem dX4_factLine_165 : decode cX4_factLine 165 = .ok (.invokevirtual 120, 3) := dk_182 0 120 (dk_at dksX4_factLine_7 0 rfl rfl)
theorem dX4_factLine_168 : decode cX4_factLine 168 = .ok (.invokevirtual 289, 3) := dk_182 1 33 (dk_at dksX4_factLine_7 3 rfl rfl)
theorem dX4_factLine_171 : decode cX4_factLine 171 = .ok (.aload_n 0, 1) := dk_42 (dk_at dksX4_factLine_7 6 rfl rfl)
theorem dX4_factLine_172 : decode cX4_factLine 172 = .ok (.iload_n 3, 1) := dk_29 (dk_at dksX4_factLine_7 7 rfl rfl)
theorem dX4_factLine_173 : decode cX4_factLine 173 = .ok (.iconst 2, 1) := dk_5 (dk_at dksX4_factLine_7 8 rfl rfl)
theorem dX4_factLine_174 : decode cX4_factLine 174 = .ok (.invokevirtual 120, 3) := dk_182 0 120 (dk_at dksX4_factLine_7 9 rfl rfl)
theorem dX4_factLine_177 : decode cX4_factLine 177 = .ok (.iconst (-1), 1) := dk_2 (dk_at dksX4_factLine_7 12 rfl rfl)
theorem dX4_factLine_178 : decode cX4_factLine 178 = .ok (.if_icmp .ne 6, 3) := dk_160 0 6 (dk_at dksX4_factLine_7 13 rfl rfl)
theorem dX4_factLine_181 : decode cX4_factLine 181 = .ok (.goto 19, 3) := dk_167 0 19 (dk_at dksX4_factLine_7 16 rfl rfl)
theorem dX4_factLine_184 : decode cX4_factLine 184 = .ok (.aload_n 0, 1) := dk_42 (dk_at dksX4_factLine_7 19 rfl rfl)
theorem dX4_factLine_185 : decode cX4_factLine 185 = .ok (.bipush 44, 2) := dk_16 44 (dk_at dksX4_factLine_7 20 rfl rfl)
theorem dX4_factLine_187 : decode cX4_factLine 187 = .ok (.invokevirtual 279, 3) := dk_182 1 23 (dk_at dksX4_factLine_8 0 rfl rfl)
theorem dX4_factLine_190 : decode cX4_factLine 190 = .ok (.aload_n 0, 1) := dk_42 (dk_at dksX4_factLine_8 3 rfl rfl)
theorem dX4_factLine_191 : decode cX4_factLine 191 = .ok (.aload_n 0, 1) := dk_42 (dk_at dksX4_factLine_8 4 rfl rfl)
theorem dX4_factLine_192 : decode cX4_factLine 192 = .ok (.iload_n 3, 1) := dk_29 (dk_at dksX4_factLine_8 5 rfl rfl)
theorem dX4_factLine_193 : decode cX4_factLine 193 = .ok (.iconst 2, 1) := dk_5 (dk_at dksX4_factLine_8 6 rfl rfl)
theorem dX4_factLine_194 : decode cX4_factLine 194 = .ok (.invokevirtual 120, 3) := dk_182 0 120 (dk_at dksX4_factLine_8 7 rfl rfl)
theorem dX4_factLine_197 : decode cX4_factLine 197 = .ok (.invokevirtual 289, 3) := dk_182 1 33 (dk_at dksX4_factLine_8 10 rfl rfl)
theorem dX4_factLine_200 : decode cX4_factLine 200 = .ok (.iinc 3 1, 3) := dk_132 3 1 (dk_at dksX4_factLine_8 13 rfl rfl)
theorem dX4_factLine_203 : decode cX4_factLine 203 = .ok (.goto (-96), 3) := dk_167 255 160 (dk_at dksX4_factLine_8 16 rfl rfl)
theorem dX4_factLine_206 : decode cX4_factLine 206 = .ok (.aload_n 0, 1) := dk_42 (dk_at dksX4_factLine_8 19 rfl rfl)
theorem dX4_factLine_207 : decode cX4_factLine 207 = .ok (.getfield 276, 3) := dk_180 1 20 (dk_at dksX4_factLine_8 20 rfl rfl)
theorem dX4_factLine_210 : decode cX4_factLine 210 = .ok (.ireturn, 1) := dk_172 (dk_at dksX4_factLine_8 23 rfl rfl)
abbrev cX4_writesNumber : ByteArray := prog_14_method_68_code
def yX4_writesNumber : MethodName := ⟨RX4, "writesNumber", "(I)V"⟩
def dkwX4_writesNumber_1 : List UInt8 := [42, 16, 48, 27, 29, 108, 16, 10, 112, 96, 182, 1, 23, 29, 16, 10, 108, 62, 167, 255, 234, 177]
abbrev dktX4_writesNumber_1 : List UInt8 := dkwX4_writesNumber_1 ++ []
def dkwX4_writesNumber_0 : List UInt8 := [4, 61, 27, 28, 108, 16, 9, 164, 0, 11, 28, 16, 10, 104, 61, 167, 255, 243, 28, 62, 29, 158, 0, 24]
abbrev dktX4_writesNumber_0 : List UInt8 := dkwX4_writesNumber_0 ++ dktX4_writesNumber_1
theorem dksX4_writesNumber_0 : cX4_writesNumber.data.toList.drop 0 = dktX4_writesNumber_0 := by decide +kernel
theorem dksX4_writesNumber_1 : cX4_writesNumber.data.toList.drop 24 = dktX4_writesNumber_1 := dk_seg dksX4_writesNumber_0 24 rfl rfl
theorem dX4_writesNumber_0 : decode cX4_writesNumber 0 = .ok (.iconst 1, 1) := dk_4 (dk_at dksX4_writesNumber_0 0 rfl rfl)
theorem dX4_writesNumber_1 : decode cX4_writesNumber 1 = .ok (.istore_n 2, 1) := dk_61 (dk_at dksX4_writesNumber_0 1 rfl rfl)
theorem dX4_writesNumber_2 : decode cX4_writesNumber 2 = .ok (.iload_n 1, 1) := dk_27 (dk_at dksX4_writesNumber_0 2 rfl rfl)
theorem dX4_writesNumber_3 : decode cX4_writesNumber 3 = .ok (.iload_n 2, 1) := dk_28 (dk_at dksX4_writesNumber_0 3 rfl rfl)
theorem dX4_writesNumber_4 : decode cX4_writesNumber 4 = .ok (.idiv, 1) := dk_108 (dk_at dksX4_writesNumber_0 4 rfl rfl)
theorem dX4_writesNumber_5 : decode cX4_writesNumber 5 = .ok (.bipush 9, 2) := dk_16 9 (dk_at dksX4_writesNumber_0 5 rfl rfl)
theorem dX4_writesNumber_7 : decode cX4_writesNumber 7 = .ok (.if_icmp .le 11, 3) := dk_164 0 11 (dk_at dksX4_writesNumber_0 7 rfl rfl)
theorem dX4_writesNumber_10 : decode cX4_writesNumber 10 = .ok (.iload_n 2, 1) := dk_28 (dk_at dksX4_writesNumber_0 10 rfl rfl)
theorem dX4_writesNumber_11 : decode cX4_writesNumber 11 = .ok (.bipush 10, 2) := dk_16 10 (dk_at dksX4_writesNumber_0 11 rfl rfl)
theorem dX4_writesNumber_13 : decode cX4_writesNumber 13 = .ok (.imul, 1) := dk_104 (dk_at dksX4_writesNumber_0 13 rfl rfl)
theorem dX4_writesNumber_14 : decode cX4_writesNumber 14 = .ok (.istore_n 2, 1) := dk_61 (dk_at dksX4_writesNumber_0 14 rfl rfl)
theorem dX4_writesNumber_15 : decode cX4_writesNumber 15 = .ok (.goto (-13), 3) := dk_167 255 243 (dk_at dksX4_writesNumber_0 15 rfl rfl)
theorem dX4_writesNumber_18 : decode cX4_writesNumber 18 = .ok (.iload_n 2, 1) := dk_28 (dk_at dksX4_writesNumber_0 18 rfl rfl)
theorem dX4_writesNumber_19 : decode cX4_writesNumber 19 = .ok (.istore_n 3, 1) := dk_62 (dk_at dksX4_writesNumber_0 19 rfl rfl)
theorem dX4_writesNumber_20 : decode cX4_writesNumber 20 = .ok (.iload_n 3, 1) := dk_29 (dk_at dksX4_writesNumber_0 20 rfl rfl)
theorem dX4_writesNumber_21 : decode cX4_writesNumber 21 = .ok (.ifCond .le 24, 3) := dk_158 0 24 (dk_at dksX4_writesNumber_0 21 rfl rfl)
theorem dX4_writesNumber_24 : decode cX4_writesNumber 24 = .ok (.aload_n 0, 1) := dk_42 (dk_at dksX4_writesNumber_1 0 rfl rfl)
theorem dX4_writesNumber_25 : decode cX4_writesNumber 25 = .ok (.bipush 48, 2) := dk_16 48 (dk_at dksX4_writesNumber_1 1 rfl rfl)
theorem dX4_writesNumber_27 : decode cX4_writesNumber 27 = .ok (.iload_n 1, 1) := dk_27 (dk_at dksX4_writesNumber_1 3 rfl rfl)
theorem dX4_writesNumber_28 : decode cX4_writesNumber 28 = .ok (.iload_n 3, 1) := dk_29 (dk_at dksX4_writesNumber_1 4 rfl rfl)
theorem dX4_writesNumber_29 : decode cX4_writesNumber 29 = .ok (.idiv, 1) := dk_108 (dk_at dksX4_writesNumber_1 5 rfl rfl)
theorem dX4_writesNumber_30 : decode cX4_writesNumber 30 = .ok (.bipush 10, 2) := dk_16 10 (dk_at dksX4_writesNumber_1 6 rfl rfl)
theorem dX4_writesNumber_32 : decode cX4_writesNumber 32 = .ok (.irem, 1) := dk_112 (dk_at dksX4_writesNumber_1 8 rfl rfl)
theorem dX4_writesNumber_33 : decode cX4_writesNumber 33 = .ok (.iadd, 1) := dk_96 (dk_at dksX4_writesNumber_1 9 rfl rfl)
theorem dX4_writesNumber_34 : decode cX4_writesNumber 34 = .ok (.invokevirtual 279, 3) := dk_182 1 23 (dk_at dksX4_writesNumber_1 10 rfl rfl)
theorem dX4_writesNumber_37 : decode cX4_writesNumber 37 = .ok (.iload_n 3, 1) := dk_29 (dk_at dksX4_writesNumber_1 13 rfl rfl)
theorem dX4_writesNumber_38 : decode cX4_writesNumber 38 = .ok (.bipush 10, 2) := dk_16 10 (dk_at dksX4_writesNumber_1 14 rfl rfl)
theorem dX4_writesNumber_40 : decode cX4_writesNumber 40 = .ok (.idiv, 1) := dk_108 (dk_at dksX4_writesNumber_1 16 rfl rfl)
theorem dX4_writesNumber_41 : decode cX4_writesNumber 41 = .ok (.istore_n 3, 1) := dk_62 (dk_at dksX4_writesNumber_1 17 rfl rfl)
theorem dX4_writesNumber_42 : decode cX4_writesNumber 42 = .ok (.goto (-22), 3) := dk_167 255 234 (dk_at dksX4_writesNumber_1 18 rfl rfl)
theorem dX4_writesNumber_45 : decode cX4_writesNumber 45 = .ok (.return_, 1) := dk_177 (dk_at dksX4_writesNumber_1 21 rfl rfl)
abbrev cX4_character : ByteArray := prog_14_method_73_code
def yX4_character : MethodName := ⟨RX4, "character", "(I)C"⟩
def dkwX4_character_1 : List UInt8 := [180, 0, 84, 158, 0, 7, 3, 167, 0, 10, 42, 180, 0, 33, 27, 46, 146, 172]
abbrev dktX4_character_1 : List UInt8 := dkwX4_character_1 ++ []
def dkwX4_character_0 : List UInt8 := [42, 27, 3, 42, 180, 1, 20, 4, 100, 184, 0, 209, 153, 0, 7, 3, 167, 0, 4, 4, 181, 0, 84, 42]
abbrev dktX4_character_0 : List UInt8 := dkwX4_character_0 ++ dktX4_character_1
theorem dksX4_character_0 : cX4_character.data.toList.drop 0 = dktX4_character_0 := by decide +kernel
theorem dksX4_character_1 : cX4_character.data.toList.drop 24 = dktX4_character_1 := dk_seg dksX4_character_0 24 rfl rfl
theorem dX4_character_0 : decode cX4_character 0 = .ok (.aload_n 0, 1) := dk_42 (dk_at dksX4_character_0 0 rfl rfl)
theorem dX4_character_1 : decode cX4_character 1 = .ok (.iload_n 1, 1) := dk_27 (dk_at dksX4_character_0 1 rfl rfl)
theorem dX4_character_2 : decode cX4_character 2 = .ok (.iconst 0, 1) := dk_3 (dk_at dksX4_character_0 2 rfl rfl)
theorem dX4_character_3 : decode cX4_character 3 = .ok (.aload_n 0, 1) := dk_42 (dk_at dksX4_character_0 3 rfl rfl)
theorem dX4_character_4 : decode cX4_character 4 = .ok (.getfield 276, 3) := dk_180 1 20 (dk_at dksX4_character_0 4 rfl rfl)
theorem dX4_character_7 : decode cX4_character 7 = .ok (.iconst 1, 1) := dk_4 (dk_at dksX4_character_0 7 rfl rfl)
theorem dX4_character_8 : decode cX4_character 8 = .ok (.isub, 1) := dk_100 (dk_at dksX4_character_0 8 rfl rfl)
theorem dX4_character_9 : decode cX4_character 9 = .ok (.invokestatic 209, 3) := dk_184 0 209 (dk_at dksX4_character_0 9 rfl rfl)
theorem dX4_character_12 : decode cX4_character 12 = .ok (.ifCond .eq 7, 3) := dk_153 0 7 (dk_at dksX4_character_0 12 rfl rfl)
theorem dX4_character_15 : decode cX4_character 15 = .ok (.iconst 0, 1) := dk_3 (dk_at dksX4_character_0 15 rfl rfl)
theorem dX4_character_16 : decode cX4_character 16 = .ok (.goto 4, 3) := dk_167 0 4 (dk_at dksX4_character_0 16 rfl rfl)
theorem dX4_character_19 : decode cX4_character 19 = .ok (.iconst 1, 1) := dk_4 (dk_at dksX4_character_0 19 rfl rfl)
theorem dX4_character_20 : decode cX4_character 20 = .ok (.putfield 84, 3) := dk_181 0 84 (dk_at dksX4_character_0 20 rfl rfl)
theorem dX4_character_23 : decode cX4_character 23 = .ok (.aload_n 0, 1) := dk_42 (dk_at dksX4_character_0 23 rfl rfl)
theorem dX4_character_24 : decode cX4_character 24 = .ok (.getfield 84, 3) := dk_180 0 84 (dk_at dksX4_character_1 0 rfl rfl)
theorem dX4_character_27 : decode cX4_character 27 = .ok (.ifCond .le 7, 3) := dk_158 0 7 (dk_at dksX4_character_1 3 rfl rfl)
theorem dX4_character_30 : decode cX4_character 30 = .ok (.iconst 0, 1) := dk_3 (dk_at dksX4_character_1 6 rfl rfl)
theorem dX4_character_31 : decode cX4_character 31 = .ok (.goto 10, 3) := dk_167 0 10 (dk_at dksX4_character_1 7 rfl rfl)
theorem dX4_character_34 : decode cX4_character 34 = .ok (.aload_n 0, 1) := dk_42 (dk_at dksX4_character_1 10 rfl rfl)
theorem dX4_character_35 : decode cX4_character 35 = .ok (.getfield 33, 3) := dk_180 0 33 (dk_at dksX4_character_1 11 rfl rfl)
theorem dX4_character_38 : decode cX4_character 38 = .ok (.iload_n 1, 1) := dk_27 (dk_at dksX4_character_1 14 rfl rfl)
theorem dX4_character_39 : decode cX4_character 39 = .ok (.iaload, 1) := dk_46 (dk_at dksX4_character_1 15 rfl rfl)
theorem dX4_character_40 : decode cX4_character 40 = .ok (.i2c, 1) := dk_146 (dk_at dksX4_character_1 16 rfl rfl)
theorem dX4_character_41 : decode cX4_character 41 = .ok (.ireturn, 1) := dk_172 (dk_at dksX4_character_1 17 rfl rfl)
abbrev cX4_refusal : ByteArray := prog_14_method_74_code
def yX4_refusal : MethodName := ⟨RX4, "refusal", "(Z)I"⟩
def dkwX4_refusal_1 : List UInt8 := [167, 0, 7, 42, 180, 0, 104, 172]
abbrev dktX4_refusal_1 : List UInt8 := dkwX4_refusal_1 ++ []
def dkwX4_refusal_0 : List UInt8 := [42, 42, 180, 0, 104, 154, 0, 7, 4, 167, 0, 4, 3, 181, 0, 84, 27, 153, 0, 10, 42, 180, 0, 107]
abbrev dktX4_refusal_0 : List UInt8 := dkwX4_refusal_0 ++ dktX4_refusal_1
theorem dksX4_refusal_0 : cX4_refusal.data.toList.drop 0 = dktX4_refusal_0 := by decide +kernel
theorem dksX4_refusal_1 : cX4_refusal.data.toList.drop 24 = dktX4_refusal_1 := dk_seg dksX4_refusal_0 24 rfl rfl
theorem dX4_refusal_0 : decode cX4_refusal 0 = .ok (.aload_n 0, 1) := dk_42 (dk_at dksX4_refusal_0 0 rfl rfl)
theorem dX4_refusal_1 : decode cX4_refusal 1 = .ok (.aload_n 0, 1) := dk_42 (dk_at dksX4_refusal_0 1 rfl rfl)
theorem dX4_refusal_2 : decode cX4_refusal 2 = .ok (.getfield 104, 3) := dk_180 0 104 (dk_at dksX4_refusal_0 2 rfl rfl)
theorem dX4_refusal_5 : decode cX4_refusal 5 = .ok (.ifCond .ne 7, 3) := dk_154 0 7 (dk_at dksX4_refusal_0 5 rfl rfl)
theorem dX4_refusal_8 : decode cX4_refusal 8 = .ok (.iconst 1, 1) := dk_4 (dk_at dksX4_refusal_0 8 rfl rfl)
theorem dX4_refusal_9 : decode cX4_refusal 9 = .ok (.goto 4, 3) := dk_167 0 4 (dk_at dksX4_refusal_0 9 rfl rfl)
theorem dX4_refusal_12 : decode cX4_refusal 12 = .ok (.iconst 0, 1) := dk_3 (dk_at dksX4_refusal_0 12 rfl rfl)
theorem dX4_refusal_13 : decode cX4_refusal 13 = .ok (.putfield 84, 3) := dk_181 0 84 (dk_at dksX4_refusal_0 13 rfl rfl)
theorem dX4_refusal_16 : decode cX4_refusal 16 = .ok (.iload_n 1, 1) := dk_27 (dk_at dksX4_refusal_0 16 rfl rfl)
theorem dX4_refusal_17 : decode cX4_refusal 17 = .ok (.ifCond .eq 10, 3) := dk_153 0 10 (dk_at dksX4_refusal_0 17 rfl rfl)
theorem dX4_refusal_20 : decode cX4_refusal 20 = .ok (.aload_n 0, 1) := dk_42 (dk_at dksX4_refusal_0 20 rfl rfl)
theorem dX4_refusal_21 : decode cX4_refusal 21 = .ok (.getfield 107, 3) := dk_180 0 107 (dk_at dksX4_refusal_0 21 rfl rfl)
theorem dX4_refusal_24 : decode cX4_refusal 24 = .ok (.goto 7, 3) := dk_167 0 7 (dk_at dksX4_refusal_1 0 rfl rfl)
theorem dX4_refusal_27 : decode cX4_refusal 27 = .ok (.aload_n 0, 1) := dk_42 (dk_at dksX4_refusal_1 3 rfl rfl)
theorem dX4_refusal_28 : decode cX4_refusal 28 = .ok (.getfield 104, 3) := dk_180 0 104 (dk_at dksX4_refusal_1 4 rfl rfl)
theorem dX4_refusal_31 : decode cX4_refusal 31 = .ok (.ireturn, 1) := dk_172 (dk_at dksX4_refusal_1 7 rfl rfl)
abbrev cX4_account : ByteArray := prog_14_method_79_code
def yX4_account : MethodName := ⟨RX4, "account", "(I)I"⟩
def dkwX4_account_5 : List UInt8 := [42, 4, 182, 0, 101, 172]
abbrev dktX4_account_5 : List UInt8 := dkwX4_account_5 ++ []
def dkwX4_account_4 : List UInt8 := [46, 172, 42, 182, 1, 45, 172, 42, 180, 0, 7, 8, 46, 172, 42, 180, 0, 228, 172, 42, 180, 0, 87, 172]
abbrev dktX4_account_4 : List UInt8 := dkwX4_account_4 ++ dktX4_account_5
def dkwX4_account_3 : List UInt8 := [46, 172, 42, 180, 0, 7, 6, 46, 172, 42, 182, 1, 39, 172, 42, 182, 1, 42, 172, 42, 180, 0, 7, 7]
abbrev dktX4_account_3 : List UInt8 := dkwX4_account_3 ++ dktX4_account_4
def dkwX4_account_2 : List UInt8 := [42, 180, 0, 7, 4, 46, 172, 42, 180, 0, 7, 5, 46, 172, 42, 182, 1, 36, 172, 42, 180, 0, 7, 3]
abbrev dktX4_account_2 : List UInt8 := dkwX4_account_2 ++ dktX4_account_3
def dkwX4_account_1 : List UInt8 := [170, 0, 0, 0, 0, 134, 0, 0, 0, 0, 0, 0, 0, 11, 0, 0, 0, 62, 0, 0, 0, 69, 0, 0, 0, 76, 0, 0, 0, 81, 0, 0, 0, 88, 0, 0, 0, 95, 0, 0, 0, 100, 0, 0, 0, 105, 0, 0, 0, 112, 0, 0, 0, 117, 0, 0, 0, 124, 0, 0, 0, 129]
abbrev dktX4_account_1 : List UInt8 := dkwX4_account_1 ++ dktX4_account_2
def dkwX4_account_0 : List UInt8 := [42, 3, 181, 0, 84, 27]
abbrev dktX4_account_0 : List UInt8 := dkwX4_account_0 ++ dktX4_account_1
theorem dksX4_account_0 : cX4_account.data.toList.drop 0 = dktX4_account_0 := by decide +kernel
theorem dksX4_account_1 : cX4_account.data.toList.drop 6 = dktX4_account_1 := dk_seg dksX4_account_0 6 rfl rfl
theorem dksX4_account_2 : cX4_account.data.toList.drop 68 = dktX4_account_2 := dk_seg dksX4_account_1 62 rfl rfl
theorem dksX4_account_3 : cX4_account.data.toList.drop 92 = dktX4_account_3 := dk_seg dksX4_account_2 24 rfl rfl
theorem dksX4_account_4 : cX4_account.data.toList.drop 116 = dktX4_account_4 := dk_seg dksX4_account_3 24 rfl rfl
theorem dksX4_account_5 : cX4_account.data.toList.drop 140 = dktX4_account_5 := dk_seg dksX4_account_4 24 rfl rfl
theorem dX4_account_0 : decode cX4_account 0 = .ok (.aload_n 0, 1) := dk_42 (dk_at dksX4_account_0 0 rfl rfl)
theorem dX4_account_1 : decode cX4_account 1 = .ok (.iconst 0, 1) := dk_3 (dk_at dksX4_account_0 1 rfl rfl)
theorem dX4_account_2 : decode cX4_account 2 = .ok (.putfield 84, 3) := dk_181 0 84 (dk_at dksX4_account_0 2 rfl rfl)
theorem dX4_account_5 : decode cX4_account 5 = .ok (.iload_n 1, 1) := dk_27 (dk_at dksX4_account_0 5 rfl rfl)
theorem dX4_account_6 : decode cX4_account 6 = .ok (.tableswitch 134 0 11 #[62, 69, 76, 81, 88, 95, 100, 105, 112, 117, 124, 129], 62) := by decide +kernel
theorem dX4_account_68 : decode cX4_account 68 = .ok (.aload_n 0, 1) := dk_42 (dk_at dksX4_account_2 0 rfl rfl)
theorem dX4_account_69 : decode cX4_account 69 = .ok (.getfield 7, 3) := dk_180 0 7 (dk_at dksX4_account_2 1 rfl rfl)
theorem dX4_account_72 : decode cX4_account 72 = .ok (.iconst 1, 1) := dk_4 (dk_at dksX4_account_2 4 rfl rfl)
theorem dX4_account_73 : decode cX4_account 73 = .ok (.iaload, 1) := dk_46 (dk_at dksX4_account_2 5 rfl rfl)
theorem dX4_account_74 : decode cX4_account 74 = .ok (.ireturn, 1) := dk_172 (dk_at dksX4_account_2 6 rfl rfl)
theorem dX4_account_75 : decode cX4_account 75 = .ok (.aload_n 0, 1) := dk_42 (dk_at dksX4_account_2 7 rfl rfl)
theorem dX4_account_76 : decode cX4_account 76 = .ok (.getfield 7, 3) := dk_180 0 7 (dk_at dksX4_account_2 8 rfl rfl)
theorem dX4_account_79 : decode cX4_account 79 = .ok (.iconst 2, 1) := dk_5 (dk_at dksX4_account_2 11 rfl rfl)
theorem dX4_account_80 : decode cX4_account 80 = .ok (.iaload, 1) := dk_46 (dk_at dksX4_account_2 12 rfl rfl)
theorem dX4_account_81 : decode cX4_account 81 = .ok (.ireturn, 1) := dk_172 (dk_at dksX4_account_2 13 rfl rfl)
theorem dX4_account_82 : decode cX4_account 82 = .ok (.aload_n 0, 1) := dk_42 (dk_at dksX4_account_2 14 rfl rfl)
theorem dX4_account_83 : decode cX4_account 83 = .ok (.invokevirtual 292, 3) := dk_182 1 36 (dk_at dksX4_account_2 15 rfl rfl)
theorem dX4_account_86 : decode cX4_account 86 = .ok (.ireturn, 1) := dk_172 (dk_at dksX4_account_2 18 rfl rfl)
theorem dX4_account_87 : decode cX4_account 87 = .ok (.aload_n 0, 1) := dk_42 (dk_at dksX4_account_2 19 rfl rfl)
theorem dX4_account_88 : decode cX4_account 88 = .ok (.getfield 7, 3) := dk_180 0 7 (dk_at dksX4_account_2 20 rfl rfl)
theorem dX4_account_91 : decode cX4_account 91 = .ok (.iconst 0, 1) := dk_3 (dk_at dksX4_account_2 23 rfl rfl)
theorem dX4_account_92 : decode cX4_account 92 = .ok (.iaload, 1) := dk_46 (dk_at dksX4_account_3 0 rfl rfl)
theorem dX4_account_93 : decode cX4_account 93 = .ok (.ireturn, 1) := dk_172 (dk_at dksX4_account_3 1 rfl rfl)
theorem dX4_account_94 : decode cX4_account 94 = .ok (.aload_n 0, 1) := dk_42 (dk_at dksX4_account_3 2 rfl rfl)
theorem dX4_account_95 : decode cX4_account 95 = .ok (.getfield 7, 3) := dk_180 0 7 (dk_at dksX4_account_3 3 rfl rfl)
theorem dX4_account_98 : decode cX4_account 98 = .ok (.iconst 3, 1) := dk_6 (dk_at dksX4_account_3 6 rfl rfl)
theorem dX4_account_99 : decode cX4_account 99 = .ok (.iaload, 1) := dk_46 (dk_at dksX4_account_3 7 rfl rfl)
theorem dX4_account_100 : decode cX4_account 100 = .ok (.ireturn, 1) := dk_172 (dk_at dksX4_account_3 8 rfl rfl)
theorem dX4_account_101 : decode cX4_account 101 = .ok (.aload_n 0, 1) := dk_42 (dk_at dksX4_account_3 9 rfl rfl)
theorem dX4_account_102 : decode cX4_account 102 = .ok (.invokevirtual 295, 3) := dk_182 1 39 (dk_at dksX4_account_3 10 rfl rfl)
theorem dX4_account_105 : decode cX4_account 105 = .ok (.ireturn, 1) := dk_172 (dk_at dksX4_account_3 13 rfl rfl)
theorem dX4_account_106 : decode cX4_account 106 = .ok (.aload_n 0, 1) := dk_42 (dk_at dksX4_account_3 14 rfl rfl)
theorem dX4_account_107 : decode cX4_account 107 = .ok (.invokevirtual 298, 3) := dk_182 1 42 (dk_at dksX4_account_3 15 rfl rfl)
theorem dX4_account_110 : decode cX4_account 110 = .ok (.ireturn, 1) := dk_172 (dk_at dksX4_account_3 18 rfl rfl)
theorem dX4_account_111 : decode cX4_account 111 = .ok (.aload_n 0, 1) := dk_42 (dk_at dksX4_account_3 19 rfl rfl)
theorem dX4_account_112 : decode cX4_account 112 = .ok (.getfield 7, 3) := dk_180 0 7 (dk_at dksX4_account_3 20 rfl rfl)
theorem dX4_account_115 : decode cX4_account 115 = .ok (.iconst 4, 1) := dk_7 (dk_at dksX4_account_3 23 rfl rfl)
theorem dX4_account_116 : decode cX4_account 116 = .ok (.iaload, 1) := dk_46 (dk_at dksX4_account_4 0 rfl rfl)
theorem dX4_account_117 : decode cX4_account 117 = .ok (.ireturn, 1) := dk_172 (dk_at dksX4_account_4 1 rfl rfl)
theorem dX4_account_118 : decode cX4_account 118 = .ok (.aload_n 0, 1) := dk_42 (dk_at dksX4_account_4 2 rfl rfl)
theorem dX4_account_119 : decode cX4_account 119 = .ok (.invokevirtual 301, 3) := dk_182 1 45 (dk_at dksX4_account_4 3 rfl rfl)
theorem dX4_account_122 : decode cX4_account 122 = .ok (.ireturn, 1) := dk_172 (dk_at dksX4_account_4 6 rfl rfl)
theorem dX4_account_123 : decode cX4_account 123 = .ok (.aload_n 0, 1) := dk_42 (dk_at dksX4_account_4 7 rfl rfl)
theorem dX4_account_124 : decode cX4_account 124 = .ok (.getfield 7, 3) := dk_180 0 7 (dk_at dksX4_account_4 8 rfl rfl)
theorem dX4_account_127 : decode cX4_account 127 = .ok (.iconst 5, 1) := dk_8 (dk_at dksX4_account_4 11 rfl rfl)
theorem dX4_account_128 : decode cX4_account 128 = .ok (.iaload, 1) := dk_46 (dk_at dksX4_account_4 12 rfl rfl)
theorem dX4_account_129 : decode cX4_account 129 = .ok (.ireturn, 1) := dk_172 (dk_at dksX4_account_4 13 rfl rfl)
theorem dX4_account_130 : decode cX4_account 130 = .ok (.aload_n 0, 1) := dk_42 (dk_at dksX4_account_4 14 rfl rfl)
theorem dX4_account_131 : decode cX4_account 131 = .ok (.getfield 228, 3) := dk_180 0 228 (dk_at dksX4_account_4 15 rfl rfl)
theorem dX4_account_134 : decode cX4_account 134 = .ok (.ireturn, 1) := dk_172 (dk_at dksX4_account_4 18 rfl rfl)
theorem dX4_account_135 : decode cX4_account 135 = .ok (.aload_n 0, 1) := dk_42 (dk_at dksX4_account_4 19 rfl rfl)
theorem dX4_account_136 : decode cX4_account 136 = .ok (.getfield 87, 3) := dk_180 0 87 (dk_at dksX4_account_4 20 rfl rfl)
theorem dX4_account_139 : decode cX4_account 139 = .ok (.ireturn, 1) := dk_172 (dk_at dksX4_account_4 23 rfl rfl)
theorem dX4_account_140 : decode cX4_account 140 = .ok (.aload_n 0, 1) := dk_42 (dk_at dksX4_account_5 0 rfl rfl)
theorem dX4_account_141 : decode cX4_account 141 = .ok (.iconst 1, 1) := dk_4 (dk_at dksX4_account_5 1 rfl rfl)
theorem dX4_account_142 : decode cX4_account 142 = .ok (.invokevirtual 101, 3) := dk_182 0 101 (dk_at dksX4_account_5 2 rfl rfl)
theorem dX4_account_145 : decode cX4_account 145 = .ok (.ireturn, 1) := dk_172 (dk_at dksX4_account_5 5 rfl rfl)
abbrev cX4_toldMany : ByteArray := prog_14_method_75_code
def yX4_toldMany : MethodName := ⟨RX4, "toldMany", "()I"⟩
def dkwX4_toldMany_1 : List UInt8 := [46, 96, 60, 132, 2, 1, 167, 255, 230, 27, 172]
abbrev dktX4_toldMany_1 : List UInt8 := dkwX4_toldMany_1 ++ []
def dkwX4_toldMany_0 : List UInt8 := [3, 60, 3, 61, 28, 42, 180, 0, 7, 4, 46, 162, 0, 22, 27, 42, 180, 0, 7, 17, 0, 175, 28, 96]
abbrev dktX4_toldMany_0 : List UInt8 := dkwX4_toldMany_0 ++ dktX4_toldMany_1
theorem dksX4_toldMany_0 : cX4_toldMany.data.toList.drop 0 = dktX4_toldMany_0 := by decide +kernel
theorem dksX4_toldMany_1 : cX4_toldMany.data.toList.drop 24 = dktX4_toldMany_1 := dk_seg dksX4_toldMany_0 24 rfl rfl
theorem dX4_toldMany_0 : decode cX4_toldMany 0 = .ok (.iconst 0, 1) := dk_3 (dk_at dksX4_toldMany_0 0 rfl rfl)
theorem dX4_toldMany_1 : decode cX4_toldMany 1 = .ok (.istore_n 1, 1) := dk_60 (dk_at dksX4_toldMany_0 1 rfl rfl)
theorem dX4_toldMany_2 : decode cX4_toldMany 2 = .ok (.iconst 0, 1) := dk_3 (dk_at dksX4_toldMany_0 2 rfl rfl)
theorem dX4_toldMany_3 : decode cX4_toldMany 3 = .ok (.istore_n 2, 1) := dk_61 (dk_at dksX4_toldMany_0 3 rfl rfl)
theorem dX4_toldMany_4 : decode cX4_toldMany 4 = .ok (.iload_n 2, 1) := dk_28 (dk_at dksX4_toldMany_0 4 rfl rfl)
theorem dX4_toldMany_5 : decode cX4_toldMany 5 = .ok (.aload_n 0, 1) := dk_42 (dk_at dksX4_toldMany_0 5 rfl rfl)
theorem dX4_toldMany_6 : decode cX4_toldMany 6 = .ok (.getfield 7, 3) := dk_180 0 7 (dk_at dksX4_toldMany_0 6 rfl rfl)
theorem dX4_toldMany_9 : decode cX4_toldMany 9 = .ok (.iconst 1, 1) := dk_4 (dk_at dksX4_toldMany_0 9 rfl rfl)
theorem dX4_toldMany_10 : decode cX4_toldMany 10 = .ok (.iaload, 1) := dk_46 (dk_at dksX4_toldMany_0 10 rfl rfl)
theorem dX4_toldMany_11 : decode cX4_toldMany 11 = .ok (.if_icmp .ge 22, 3) := dk_162 0 22 (dk_at dksX4_toldMany_0 11 rfl rfl)
theorem dX4_toldMany_14 : decode cX4_toldMany 14 = .ok (.iload_n 1, 1) := dk_27 (dk_at dksX4_toldMany_0 14 rfl rfl)
theorem dX4_toldMany_15 : decode cX4_toldMany 15 = .ok (.aload_n 0, 1) := dk_42 (dk_at dksX4_toldMany_0 15 rfl rfl)
theorem dX4_toldMany_16 : decode cX4_toldMany 16 = .ok (.getfield 7, 3) := dk_180 0 7 (dk_at dksX4_toldMany_0 16 rfl rfl)
theorem dX4_toldMany_19 : decode cX4_toldMany 19 = .ok (.sipush 175, 3) := dk_17 0 175 (dk_at dksX4_toldMany_0 19 rfl rfl)
theorem dX4_toldMany_22 : decode cX4_toldMany 22 = .ok (.iload_n 2, 1) := dk_28 (dk_at dksX4_toldMany_0 22 rfl rfl)
theorem dX4_toldMany_23 : decode cX4_toldMany 23 = .ok (.iadd, 1) := dk_96 (dk_at dksX4_toldMany_0 23 rfl rfl)
theorem dX4_toldMany_24 : decode cX4_toldMany 24 = .ok (.iaload, 1) := dk_46 (dk_at dksX4_toldMany_1 0 rfl rfl)
theorem dX4_toldMany_25 : decode cX4_toldMany 25 = .ok (.iadd, 1) := dk_96 (dk_at dksX4_toldMany_1 1 rfl rfl)
theorem dX4_toldMany_26 : decode cX4_toldMany 26 = .ok (.istore_n 1, 1) := dk_60 (dk_at dksX4_toldMany_1 2 rfl rfl)
theorem dX4_toldMany_27 : decode cX4_toldMany 27 = .ok (.iinc 2 1, 3) := dk_132 2 1 (dk_at dksX4_toldMany_1 3 rfl rfl)
theorem dX4_toldMany_30 : decode cX4_toldMany 30 = .ok (.goto (-26), 3) := dk_167 255 230 (dk_at dksX4_toldMany_1 6 rfl rfl)
theorem dX4_toldMany_33 : decode cX4_toldMany 33 = .ok (.iload_n 1, 1) := dk_27 (dk_at dksX4_toldMany_1 9 rfl rfl)
theorem dX4_toldMany_34 : decode cX4_toldMany 34 = .ok (.ireturn, 1) := dk_172 (dk_at dksX4_toldMany_1 10 rfl rfl)
abbrev cX4_dueMany : ByteArray := prog_14_method_78_code
def yX4_dueMany : MethodName := ⟨RX4, "dueMany", "()I"⟩
def dkwX4_dueMany_0 : List UInt8 := [42, 182, 0, 197, 42, 180, 0, 178, 172]
abbrev dktX4_dueMany_0 : List UInt8 := dkwX4_dueMany_0 ++ []
theorem dksX4_dueMany_0 : cX4_dueMany.data.toList.drop 0 = dktX4_dueMany_0 := by decide +kernel
theorem dX4_dueMany_0 : decode cX4_dueMany 0 = .ok (.aload_n 0, 1) := dk_42 (dk_at dksX4_dueMany_0 0 rfl rfl)
theorem dX4_dueMany_1 : decode cX4_dueMany 1 = .ok (.invokevirtual 197, 3) := dk_182 0 197 (dk_at dksX4_dueMany_0 1 rfl rfl)
theorem dX4_dueMany_4 : decode cX4_dueMany 4 = .ok (.aload_n 0, 1) := dk_42 (dk_at dksX4_dueMany_0 4 rfl rfl)
theorem dX4_dueMany_5 : decode cX4_dueMany 5 = .ok (.getfield 178, 3) := dk_180 0 178 (dk_at dksX4_dueMany_0 5 rfl rfl)
theorem dX4_dueMany_8 : decode cX4_dueMany 8 = .ok (.ireturn, 1) := dk_172 (dk_at dksX4_dueMany_0 8 rfl rfl)
abbrev cX4_allReasons : ByteArray := prog_14_method_76_code
def yX4_allReasons : MethodName := ⟨RX4, "allReasons", "()I"⟩
def dkwX4_allReasons_1 : List UInt8 := [160, 0, 7, 3, 167, 0, 4, 4, 96, 60, 132, 2, 1, 167, 255, 224, 27, 172]
abbrev dktX4_allReasons_1 : List UInt8 := dkwX4_allReasons_1 ++ []
def dkwX4_allReasons_0 : List UInt8 := [3, 60, 3, 61, 28, 42, 180, 0, 7, 16, 6, 46, 162, 0, 27, 27, 42, 28, 6, 182, 0, 120, 2]
abbrev dktX4_allReasons_0 : List UInt8 := dkwX4_allReasons_0 ++ dktX4_allReasons_1
theorem dksX4_allReasons_0 : cX4_allReasons.data.toList.drop 0 = dktX4_allReasons_0 := by decide +kernel
theorem dksX4_allReasons_1 : cX4_allReasons.data.toList.drop 23 = dktX4_allReasons_1 := dk_seg dksX4_allReasons_0 23 rfl rfl
theorem dX4_allReasons_0 : decode cX4_allReasons 0 = .ok (.iconst 0, 1) := dk_3 (dk_at dksX4_allReasons_0 0 rfl rfl)
theorem dX4_allReasons_1 : decode cX4_allReasons 1 = .ok (.istore_n 1, 1) := dk_60 (dk_at dksX4_allReasons_0 1 rfl rfl)
theorem dX4_allReasons_2 : decode cX4_allReasons 2 = .ok (.iconst 0, 1) := dk_3 (dk_at dksX4_allReasons_0 2 rfl rfl)
theorem dX4_allReasons_3 : decode cX4_allReasons 3 = .ok (.istore_n 2, 1) := dk_61 (dk_at dksX4_allReasons_0 3 rfl rfl)
theorem dX4_allReasons_4 : decode cX4_allReasons 4 = .ok (.iload_n 2, 1) := dk_28 (dk_at dksX4_allReasons_0 4 rfl rfl)
theorem dX4_allReasons_5 : decode cX4_allReasons 5 = .ok (.aload_n 0, 1) := dk_42 (dk_at dksX4_allReasons_0 5 rfl rfl)
theorem dX4_allReasons_6 : decode cX4_allReasons 6 = .ok (.getfield 7, 3) := dk_180 0 7 (dk_at dksX4_allReasons_0 6 rfl rfl)
theorem dX4_allReasons_9 : decode cX4_allReasons 9 = .ok (.bipush 6, 2) := dk_16 6 (dk_at dksX4_allReasons_0 9 rfl rfl)
theorem dX4_allReasons_11 : decode cX4_allReasons 11 = .ok (.iaload, 1) := dk_46 (dk_at dksX4_allReasons_0 11 rfl rfl)
theorem dX4_allReasons_12 : decode cX4_allReasons 12 = .ok (.if_icmp .ge 27, 3) := dk_162 0 27 (dk_at dksX4_allReasons_0 12 rfl rfl)
theorem dX4_allReasons_15 : decode cX4_allReasons 15 = .ok (.iload_n 1, 1) := dk_27 (dk_at dksX4_allReasons_0 15 rfl rfl)
theorem dX4_allReasons_16 : decode cX4_allReasons 16 = .ok (.aload_n 0, 1) := dk_42 (dk_at dksX4_allReasons_0 16 rfl rfl)
theorem dX4_allReasons_17 : decode cX4_allReasons 17 = .ok (.iload_n 2, 1) := dk_28 (dk_at dksX4_allReasons_0 17 rfl rfl)
theorem dX4_allReasons_18 : decode cX4_allReasons 18 = .ok (.iconst 3, 1) := dk_6 (dk_at dksX4_allReasons_0 18 rfl rfl)
theorem dX4_allReasons_19 : decode cX4_allReasons 19 = .ok (.invokevirtual 120, 3) := dk_182 0 120 (dk_at dksX4_allReasons_0 19 rfl rfl)
theorem dX4_allReasons_22 : decode cX4_allReasons 22 = .ok (.iconst (-1), 1) := dk_2 (dk_at dksX4_allReasons_0 22 rfl rfl)
theorem dX4_allReasons_23 : decode cX4_allReasons 23 = .ok (.if_icmp .ne 7, 3) := dk_160 0 7 (dk_at dksX4_allReasons_1 0 rfl rfl)
theorem dX4_allReasons_26 : decode cX4_allReasons 26 = .ok (.iconst 0, 1) := dk_3 (dk_at dksX4_allReasons_1 3 rfl rfl)
theorem dX4_allReasons_27 : decode cX4_allReasons 27 = .ok (.goto 4, 3) := dk_167 0 4 (dk_at dksX4_allReasons_1 4 rfl rfl)
theorem dX4_allReasons_30 : decode cX4_allReasons 30 = .ok (.iconst 1, 1) := dk_4 (dk_at dksX4_allReasons_1 7 rfl rfl)
theorem dX4_allReasons_31 : decode cX4_allReasons 31 = .ok (.iadd, 1) := dk_96 (dk_at dksX4_allReasons_1 8 rfl rfl)
theorem dX4_allReasons_32 : decode cX4_allReasons 32 = .ok (.istore_n 1, 1) := dk_60 (dk_at dksX4_allReasons_1 9 rfl rfl)
theorem dX4_allReasons_33 : decode cX4_allReasons 33 = .ok (.iinc 2 1, 3) := dk_132 2 1 (dk_at dksX4_allReasons_1 10 rfl rfl)
theorem dX4_allReasons_36 : decode cX4_allReasons 36 = .ok (.goto (-32), 3) := dk_167 255 224 (dk_at dksX4_allReasons_1 13 rfl rfl)
theorem dX4_allReasons_39 : decode cX4_allReasons 39 = .ok (.iload_n 1, 1) := dk_27 (dk_at dksX4_allReasons_1 16 rfl rfl)
theorem dX4_allReasons_40 : decode cX4_allReasons 40 = .ok (.ireturn, 1) := dk_172 (dk_at dksX4_allReasons_1 17 rfl rfl)
abbrev cX4_deepest : ByteArray := prog_14_method_77_code
def yX4_deepest : MethodName := ⟨RX4, "deepest", "()I"⟩
def dkwX4_deepest_1 : List UInt8 := [27, 164, 0, 12, 42, 180, 0, 58, 28, 46, 167, 0, 4, 27, 60, 132, 2, 1, 167, 255, 222, 27, 172]
abbrev dktX4_deepest_1 : List UInt8 := dkwX4_deepest_1 ++ []
def dkwX4_deepest_0 : List UInt8 := [42, 182, 1, 8, 3, 60, 3, 61, 28, 42, 180, 0, 7, 4, 46, 162, 0, 30, 42, 180, 0, 58, 28, 46]
abbrev dktX4_deepest_0 : List UInt8 := dkwX4_deepest_0 ++ dktX4_deepest_1
theorem dksX4_deepest_0 : cX4_deepest.data.toList.drop 0 = dktX4_deepest_0 := by decide +kernel
theorem dksX4_deepest_1 : cX4_deepest.data.toList.drop 24 = dktX4_deepest_1 := dk_seg dksX4_deepest_0 24 rfl rfl
theorem dX4_deepest_0 : decode cX4_deepest 0 = .ok (.aload_n 0, 1) := dk_42 (dk_at dksX4_deepest_0 0 rfl rfl)
theorem dX4_deepest_1 : decode cX4_deepest 1 = .ok (.invokevirtual 264, 3) := dk_182 1 8 (dk_at dksX4_deepest_0 1 rfl rfl)
theorem dX4_deepest_4 : decode cX4_deepest 4 = .ok (.iconst 0, 1) := dk_3 (dk_at dksX4_deepest_0 4 rfl rfl)
theorem dX4_deepest_5 : decode cX4_deepest 5 = .ok (.istore_n 1, 1) := dk_60 (dk_at dksX4_deepest_0 5 rfl rfl)
theorem dX4_deepest_6 : decode cX4_deepest 6 = .ok (.iconst 0, 1) := dk_3 (dk_at dksX4_deepest_0 6 rfl rfl)
theorem dX4_deepest_7 : decode cX4_deepest 7 = .ok (.istore_n 2, 1) := dk_61 (dk_at dksX4_deepest_0 7 rfl rfl)
theorem dX4_deepest_8 : decode cX4_deepest 8 = .ok (.iload_n 2, 1) := dk_28 (dk_at dksX4_deepest_0 8 rfl rfl)
theorem dX4_deepest_9 : decode cX4_deepest 9 = .ok (.aload_n 0, 1) := dk_42 (dk_at dksX4_deepest_0 9 rfl rfl)
theorem dX4_deepest_10 : decode cX4_deepest 10 = .ok (.getfield 7, 3) := dk_180 0 7 (dk_at dksX4_deepest_0 10 rfl rfl)
theorem dX4_deepest_13 : decode cX4_deepest 13 = .ok (.iconst 1, 1) := dk_4 (dk_at dksX4_deepest_0 13 rfl rfl)
theorem dX4_deepest_14 : decode cX4_deepest 14 = .ok (.iaload, 1) := dk_46 (dk_at dksX4_deepest_0 14 rfl rfl)
theorem dX4_deepest_15 : decode cX4_deepest 15 = .ok (.if_icmp .ge 30, 3) := dk_162 0 30 (dk_at dksX4_deepest_0 15 rfl rfl)
theorem dX4_deepest_18 : decode cX4_deepest 18 = .ok (.aload_n 0, 1) := dk_42 (dk_at dksX4_deepest_0 18 rfl rfl)
theorem dX4_deepest_19 : decode cX4_deepest 19 = .ok (.getfield 58, 3) := dk_180 0 58 (dk_at dksX4_deepest_0 19 rfl rfl)
theorem dX4_deepest_22 : decode cX4_deepest 22 = .ok (.iload_n 2, 1) := dk_28 (dk_at dksX4_deepest_0 22 rfl rfl)
theorem dX4_deepest_23 : decode cX4_deepest 23 = .ok (.iaload, 1) := dk_46 (dk_at dksX4_deepest_0 23 rfl rfl)
theorem dX4_deepest_24 : decode cX4_deepest 24 = .ok (.iload_n 1, 1) := dk_27 (dk_at dksX4_deepest_1 0 rfl rfl)
theorem dX4_deepest_25 : decode cX4_deepest 25 = .ok (.if_icmp .le 12, 3) := dk_164 0 12 (dk_at dksX4_deepest_1 1 rfl rfl)
theorem dX4_deepest_28 : decode cX4_deepest 28 = .ok (.aload_n 0, 1) := dk_42 (dk_at dksX4_deepest_1 4 rfl rfl)
theorem dX4_deepest_29 : decode cX4_deepest 29 = .ok (.getfield 58, 3) := dk_180 0 58 (dk_at dksX4_deepest_1 5 rfl rfl)
theorem dX4_deepest_32 : decode cX4_deepest 32 = .ok (.iload_n 2, 1) := dk_28 (dk_at dksX4_deepest_1 8 rfl rfl)
theorem dX4_deepest_33 : decode cX4_deepest 33 = .ok (.iaload, 1) := dk_46 (dk_at dksX4_deepest_1 9 rfl rfl)
theorem dX4_deepest_34 : decode cX4_deepest 34 = .ok (.goto 4, 3) := dk_167 0 4 (dk_at dksX4_deepest_1 10 rfl rfl)
theorem dX4_deepest_37 : decode cX4_deepest 37 = .ok (.iload_n 1, 1) := dk_27 (dk_at dksX4_deepest_1 13 rfl rfl)
theorem dX4_deepest_38 : decode cX4_deepest 38 = .ok (.istore_n 1, 1) := dk_60 (dk_at dksX4_deepest_1 14 rfl rfl)
theorem dX4_deepest_39 : decode cX4_deepest 39 = .ok (.iinc 2 1, 3) := dk_132 2 1 (dk_at dksX4_deepest_1 15 rfl rfl)
theorem dX4_deepest_42 : decode cX4_deepest 42 = .ok (.goto (-34), 3) := dk_167 255 222 (dk_at dksX4_deepest_1 18 rfl rfl)
theorem dX4_deepest_45 : decode cX4_deepest 45 = .ok (.iload_n 1, 1) := dk_27 (dk_at dksX4_deepest_1 21 rfl rfl)
theorem dX4_deepest_46 : decode cX4_deepest 46 = .ok (.ireturn, 1) := dk_172 (dk_at dksX4_deepest_1 22 rfl rfl)
abbrev cX4_meanTrust : ByteArray := prog_14_method_80_code
def yX4_meanTrust : MethodName := ⟨RX4, "meanTrust", "()D"⟩
def dkwX4_meanTrust_2 : List UInt8 := [182, 0, 190, 141, 99, 72, 132, 3, 1, 167, 255, 234, 39, 42, 180, 0, 7, 4, 46, 135, 111, 175]
abbrev dktX4_meanTrust_2 : List UInt8 := dkwX4_meanTrust_2 ++ []
def dkwX4_meanTrust_1 : List UInt8 := [158, 0, 5, 14, 175, 14, 72, 3, 62, 29, 42, 180, 0, 7, 4, 46, 162, 0, 18, 39, 42, 29]
abbrev dktX4_meanTrust_1 : List UInt8 := dkwX4_meanTrust_1 ++ dktX4_meanTrust_2
def dkwX4_meanTrust_0 : List UInt8 := [42, 42, 180, 0, 7, 4, 46, 154, 0, 7, 4, 167, 0, 4, 3, 181, 0, 84, 42, 180, 0, 84]
abbrev dktX4_meanTrust_0 : List UInt8 := dkwX4_meanTrust_0 ++ dktX4_meanTrust_1
theorem dksX4_meanTrust_0 : cX4_meanTrust.data.toList.drop 0 = dktX4_meanTrust_0 := by decide +kernel
theorem dksX4_meanTrust_1 : cX4_meanTrust.data.toList.drop 22 = dktX4_meanTrust_1 := dk_seg dksX4_meanTrust_0 22 rfl rfl
theorem dksX4_meanTrust_2 : cX4_meanTrust.data.toList.drop 44 = dktX4_meanTrust_2 := dk_seg dksX4_meanTrust_1 22 rfl rfl
theorem dX4_meanTrust_0 : decode cX4_meanTrust 0 = .ok (.aload_n 0, 1) := dk_42 (dk_at dksX4_meanTrust_0 0 rfl rfl)
theorem dX4_meanTrust_1 : decode cX4_meanTrust 1 = .ok (.aload_n 0, 1) := dk_42 (dk_at dksX4_meanTrust_0 1 rfl rfl)
theorem dX4_meanTrust_2 : decode cX4_meanTrust 2 = .ok (.getfield 7, 3) := dk_180 0 7 (dk_at dksX4_meanTrust_0 2 rfl rfl)
theorem dX4_meanTrust_5 : decode cX4_meanTrust 5 = .ok (.iconst 1, 1) := dk_4 (dk_at dksX4_meanTrust_0 5 rfl rfl)
theorem dX4_meanTrust_6 : decode cX4_meanTrust 6 = .ok (.iaload, 1) := dk_46 (dk_at dksX4_meanTrust_0 6 rfl rfl)
theorem dX4_meanTrust_7 : decode cX4_meanTrust 7 = .ok (.ifCond .ne 7, 3) := dk_154 0 7 (dk_at dksX4_meanTrust_0 7 rfl rfl)
theorem dX4_meanTrust_10 : decode cX4_meanTrust 10 = .ok (.iconst 1, 1) := dk_4 (dk_at dksX4_meanTrust_0 10 rfl rfl)
theorem dX4_meanTrust_11 : decode cX4_meanTrust 11 = .ok (.goto 4, 3) := dk_167 0 4 (dk_at dksX4_meanTrust_0 11 rfl rfl)
theorem dX4_meanTrust_14 : decode cX4_meanTrust 14 = .ok (.iconst 0, 1) := dk_3 (dk_at dksX4_meanTrust_0 14 rfl rfl)
theorem dX4_meanTrust_15 : decode cX4_meanTrust 15 = .ok (.putfield 84, 3) := dk_181 0 84 (dk_at dksX4_meanTrust_0 15 rfl rfl)
theorem dX4_meanTrust_18 : decode cX4_meanTrust 18 = .ok (.aload_n 0, 1) := dk_42 (dk_at dksX4_meanTrust_0 18 rfl rfl)
theorem dX4_meanTrust_19 : decode cX4_meanTrust 19 = .ok (.getfield 84, 3) := dk_180 0 84 (dk_at dksX4_meanTrust_0 19 rfl rfl)
theorem dX4_meanTrust_22 : decode cX4_meanTrust 22 = .ok (.ifCond .le 5, 3) := dk_158 0 5 (dk_at dksX4_meanTrust_1 0 rfl rfl)
theorem dX4_meanTrust_25 : decode cX4_meanTrust 25 = .ok (.dconst 0, 1) := dk_14 (dk_at dksX4_meanTrust_1 3 rfl rfl)
theorem dX4_meanTrust_26 : decode cX4_meanTrust 26 = .ok (.dreturn, 1) := dk_175 (dk_at dksX4_meanTrust_1 4 rfl rfl)
theorem dX4_meanTrust_27 : decode cX4_meanTrust 27 = .ok (.dconst 0, 1) := dk_14 (dk_at dksX4_meanTrust_1 5 rfl rfl)
theorem dX4_meanTrust_28 : decode cX4_meanTrust 28 = .ok (.dstore_n 1, 1) := dk_72 (dk_at dksX4_meanTrust_1 6 rfl rfl)
theorem dX4_meanTrust_29 : decode cX4_meanTrust 29 = .ok (.iconst 0, 1) := dk_3 (dk_at dksX4_meanTrust_1 7 rfl rfl)
theorem dX4_meanTrust_30 : decode cX4_meanTrust 30 = .ok (.istore_n 3, 1) := dk_62 (dk_at dksX4_meanTrust_1 8 rfl rfl)
theorem dX4_meanTrust_31 : decode cX4_meanTrust 31 = .ok (.iload_n 3, 1) := dk_29 (dk_at dksX4_meanTrust_1 9 rfl rfl)
theorem dX4_meanTrust_32 : decode cX4_meanTrust 32 = .ok (.aload_n 0, 1) := dk_42 (dk_at dksX4_meanTrust_1 10 rfl rfl)
theorem dX4_meanTrust_33 : decode cX4_meanTrust 33 = .ok (.getfield 7, 3) := dk_180 0 7 (dk_at dksX4_meanTrust_1 11 rfl rfl)
theorem dX4_meanTrust_36 : decode cX4_meanTrust 36 = .ok (.iconst 1, 1) := dk_4 (dk_at dksX4_meanTrust_1 14 rfl rfl)
theorem dX4_meanTrust_37 : decode cX4_meanTrust 37 = .ok (.iaload, 1) := dk_46 (dk_at dksX4_meanTrust_1 15 rfl rfl)
theorem dX4_meanTrust_38 : decode cX4_meanTrust 38 = .ok (.if_icmp .ge 18, 3) := dk_162 0 18 (dk_at dksX4_meanTrust_1 16 rfl rfl)
theorem dX4_meanTrust_41 : decode cX4_meanTrust 41 = .ok (.dload_n 1, 1) := dk_39 (dk_at dksX4_meanTrust_1 19 rfl rfl)
theorem dX4_meanTrust_42 : decode cX4_meanTrust 42 = .ok (.aload_n 0, 1) := dk_42 (dk_at dksX4_meanTrust_1 20 rfl rfl)
theorem dX4_meanTrust_43 : decode cX4_meanTrust 43 = .ok (.iload_n 3, 1) := dk_29 (dk_at dksX4_meanTrust_1 21 rfl rfl)
theorem dX4_meanTrust_44 : decode cX4_meanTrust 44 = .ok (.invokevirtual 190, 3) := dk_182 0 190 (dk_at dksX4_meanTrust_2 0 rfl rfl)
theorem dX4_meanTrust_47 : decode cX4_meanTrust 47 = .ok (.f2d, 1) := dk_141 (dk_at dksX4_meanTrust_2 3 rfl rfl)
theorem dX4_meanTrust_48 : decode cX4_meanTrust 48 = .ok (.dadd, 1) := dk_99 (dk_at dksX4_meanTrust_2 4 rfl rfl)
theorem dX4_meanTrust_49 : decode cX4_meanTrust 49 = .ok (.dstore_n 1, 1) := dk_72 (dk_at dksX4_meanTrust_2 5 rfl rfl)
theorem dX4_meanTrust_50 : decode cX4_meanTrust 50 = .ok (.iinc 3 1, 3) := dk_132 3 1 (dk_at dksX4_meanTrust_2 6 rfl rfl)
theorem dX4_meanTrust_53 : decode cX4_meanTrust 53 = .ok (.goto (-22), 3) := dk_167 255 234 (dk_at dksX4_meanTrust_2 9 rfl rfl)
theorem dX4_meanTrust_56 : decode cX4_meanTrust 56 = .ok (.dload_n 1, 1) := dk_39 (dk_at dksX4_meanTrust_2 12 rfl rfl)
theorem dX4_meanTrust_57 : decode cX4_meanTrust 57 = .ok (.aload_n 0, 1) := dk_42 (dk_at dksX4_meanTrust_2 13 rfl rfl)
theorem dX4_meanTrust_58 : decode cX4_meanTrust 58 = .ok (.getfield 7, 3) := dk_180 0 7 (dk_at dksX4_meanTrust_2 14 rfl rfl)
theorem dX4_meanTrust_61 : decode cX4_meanTrust 61 = .ok (.iconst 1, 1) := dk_4 (dk_at dksX4_meanTrust_2 17 rfl rfl)
theorem dX4_meanTrust_62 : decode cX4_meanTrust 62 = .ok (.iaload, 1) := dk_46 (dk_at dksX4_meanTrust_2 18 rfl rfl)
theorem dX4_meanTrust_63 : decode cX4_meanTrust 63 = .ok (.i2d, 1) := dk_135 (dk_at dksX4_meanTrust_2 19 rfl rfl)
theorem dX4_meanTrust_64 : decode cX4_meanTrust 64 = .ok (.ddiv, 1) := dk_111 (dk_at dksX4_meanTrust_2 20 rfl rfl)
theorem dX4_meanTrust_65 : decode cX4_meanTrust 65 = .ok (.dreturn, 1) := dk_175 (dk_at dksX4_meanTrust_2 21 rfl rfl)
abbrev cX4_store : ByteArray := prog_14_method_81_code
def yX4_store : MethodName := ⟨RX4, "store", "(IZ)I"⟩
def dkwX4_store_4 : List UInt8 := [81, 132, 3, 1, 167, 255, 207, 42, 180, 0, 7, 4, 46, 172]
abbrev dktX4_store_4 : List UInt8 := dkwX4_store_4 ++ []
def dkwX4_store_3 : List UInt8 := [180, 0, 7, 16, 95, 29, 96, 46, 79, 42, 180, 0, 70, 16, 20, 27, 104, 29, 96, 42, 29, 182, 0, 190]
abbrev dktX4_store_3 : List UInt8 := dkwX4_store_3 ++ dktX4_store_4
def dkwX4_store_2 : List UInt8 := [62, 29, 42, 180, 0, 7, 4, 46, 162, 0, 45, 42, 180, 0, 61, 16, 20, 27, 104, 29, 96, 42]
abbrev dktX4_store_2 : List UInt8 := dkwX4_store_2 ++ dktX4_store_3
def dkwX4_store_1 : List UInt8 := [27, 28, 153, 0, 7, 5, 167, 0, 4, 4, 79, 42, 180, 0, 64, 27, 42, 180, 0, 7, 4, 46, 79, 3]
abbrev dktX4_store_1 : List UInt8 := dkwX4_store_1 ++ dktX4_store_2
def dkwX4_store_0 : List UInt8 := [42, 3, 181, 0, 84, 27, 3, 4, 184, 0, 209, 154, 0, 9, 42, 4, 182, 0, 101, 172, 42, 180, 0, 67]
abbrev dktX4_store_0 : List UInt8 := dkwX4_store_0 ++ dktX4_store_1
theorem dksX4_store_0 : cX4_store.data.toList.drop 0 = dktX4_store_0 := by decide +kernel
theorem dksX4_store_1 : cX4_store.data.toList.drop 24 = dktX4_store_1 := dk_seg dksX4_store_0 24 rfl rfl
theorem dksX4_store_2 : cX4_store.data.toList.drop 48 = dktX4_store_2 := dk_seg dksX4_store_1 24 rfl rfl
theorem dksX4_store_3 : cX4_store.data.toList.drop 70 = dktX4_store_3 := dk_seg dksX4_store_2 22 rfl rfl
theorem dksX4_store_4 : cX4_store.data.toList.drop 94 = dktX4_store_4 := dk_seg dksX4_store_3 24 rfl rfl
theorem dX4_store_0 : decode cX4_store 0 = .ok (.aload_n 0, 1) := dk_42 (dk_at dksX4_store_0 0 rfl rfl)
theorem dX4_store_1 : decode cX4_store 1 = .ok (.iconst 0, 1) := dk_3 (dk_at dksX4_store_0 1 rfl rfl)
theorem dX4_store_2 : decode cX4_store 2 = .ok (.putfield 84, 3) := dk_181 0 84 (dk_at dksX4_store_0 2 rfl rfl)
theorem dX4_store_5 : decode cX4_store 5 = .ok (.iload_n 1, 1) := dk_27 (dk_at dksX4_store_0 5 rfl rfl)
theorem dX4_store_6 : decode cX4_store 6 = .ok (.iconst 0, 1) := dk_3 (dk_at dksX4_store_0 6 rfl rfl)
theorem dX4_store_7 : decode cX4_store 7 = .ok (.iconst 1, 1) := dk_4 (dk_at dksX4_store_0 7 rfl rfl)
theorem dX4_store_8 : decode cX4_store 8 = .ok (.invokestatic 209, 3) := dk_184 0 209 (dk_at dksX4_store_0 8 rfl rfl)
theorem dX4_store_11 : decode cX4_store 11 = .ok (.ifCond .ne 9, 3) := dk_154 0 9 (dk_at dksX4_store_0 11 rfl rfl)
theorem dX4_store_14 : decode cX4_store 14 = .ok (.aload_n 0, 1) := dk_42 (dk_at dksX4_store_0 14 rfl rfl)
theorem dX4_store_15 : decode cX4_store 15 = .ok (.iconst 1, 1) := dk_4 (dk_at dksX4_store_0 15 rfl rfl)
theorem dX4_store_16 : decode cX4_store 16 = .ok (.invokevirtual 101, 3) := dk_182 0 101 (dk_at dksX4_store_0 16 rfl rfl)
theorem dX4_store_19 : decode cX4_store 19 = .ok (.ireturn, 1) := dk_172 (dk_at dksX4_store_0 19 rfl rfl)
theorem dX4_store_20 : decode cX4_store 20 = .ok (.aload_n 0, 1) := dk_42 (dk_at dksX4_store_0 20 rfl rfl)
theorem dX4_store_21 : decode cX4_store 21 = .ok (.getfield 67, 3) := dk_180 0 67 (dk_at dksX4_store_0 21 rfl rfl)
theorem dX4_store_24 : decode cX4_store 24 = .ok (.iload_n 1, 1) := dk_27 (dk_at dksX4_store_1 0 rfl rfl)
theorem dX4_store_25 : decode cX4_store 25 = .ok (.iload_n 2, 1) := dk_28 (dk_at dksX4_store_1 1 rfl rfl)
theorem dX4_store_26 : decode cX4_store 26 = .ok (.ifCond .eq 7, 3) := dk_153 0 7 (dk_at dksX4_store_1 2 rfl rfl)
theorem dX4_store_29 : decode cX4_store 29 = .ok (.iconst 2, 1) := dk_5 (dk_at dksX4_store_1 5 rfl rfl)
theorem dX4_store_30 : decode cX4_store 30 = .ok (.goto 4, 3) := dk_167 0 4 (dk_at dksX4_store_1 6 rfl rfl)
theorem dX4_store_33 : decode cX4_store 33 = .ok (.iconst 1, 1) := dk_4 (dk_at dksX4_store_1 9 rfl rfl)
theorem dX4_store_34 : decode cX4_store 34 = .ok (.iastore, 1) := dk_79 (dk_at dksX4_store_1 10 rfl rfl)
theorem dX4_store_35 : decode cX4_store 35 = .ok (.aload_n 0, 1) := dk_42 (dk_at dksX4_store_1 11 rfl rfl)
theorem dX4_store_36 : decode cX4_store 36 = .ok (.getfield 64, 3) := dk_180 0 64 (dk_at dksX4_store_1 12 rfl rfl)
theorem dX4_store_39 : decode cX4_store 39 = .ok (.iload_n 1, 1) := dk_27 (dk_at dksX4_store_1 15 rfl rfl)
theorem dX4_store_40 : decode cX4_store 40 = .ok (.aload_n 0, 1) := dk_42 (dk_at dksX4_store_1 16 rfl rfl)
theorem dX4_store_41 : decode cX4_store 41 = .ok (.getfield 7, 3) := dk_180 0 7 (dk_at dksX4_store_1 17 rfl rfl)
theorem dX4_store_44 : decode cX4_store 44 = .ok (.iconst 1, 1) := dk_4 (dk_at dksX4_store_1 20 rfl rfl)
theorem dX4_store_45 : decode cX4_store 45 = .ok (.iaload, 1) := dk_46 (dk_at dksX4_store_1 21 rfl rfl)
theorem dX4_store_46 : decode cX4_store 46 = .ok (.iastore, 1) := dk_79 (dk_at dksX4_store_1 22 rfl rfl)
theorem dX4_store_47 : decode cX4_store 47 = .ok (.iconst 0, 1) := dk_3 (dk_at dksX4_store_1 23 rfl rfl)
theorem dX4_store_48 : decode cX4_store 48 = .ok (.istore_n 3, 1) := dk_62 (dk_at dksX4_store_2 0 rfl rfl)
theorem dX4_store_49 : decode cX4_store 49 = .ok (.iload_n 3, 1) := dk_29 (dk_at dksX4_store_2 1 rfl rfl)
theorem dX4_store_50 : decode cX4_store 50 = .ok (.aload_n 0, 1) := dk_42 (dk_at dksX4_store_2 2 rfl rfl)
theorem dX4_store_51 : decode cX4_store 51 = .ok (.getfield 7, 3) := dk_180 0 7 (dk_at dksX4_store_2 3 rfl rfl)
theorem dX4_store_54 : decode cX4_store 54 = .ok (.iconst 1, 1) := dk_4 (dk_at dksX4_store_2 6 rfl rfl)
theorem dX4_store_55 : decode cX4_store 55 = .ok (.iaload, 1) := dk_46 (dk_at dksX4_store_2 7 rfl rfl)
theorem dX4_store_56 : decode cX4_store 56 = .ok (.if_icmp .ge 45, 3) := dk_162 0 45 (dk_at dksX4_store_2 8 rfl rfl)
theorem dX4_store_59 : decode cX4_store 59 = .ok (.aload_n 0, 1) := dk_42 (dk_at dksX4_store_2 11 rfl rfl)
theorem dX4_store_60 : decode cX4_store 60 = .ok (.getfield 61, 3) := dk_180 0 61 (dk_at dksX4_store_2 12 rfl rfl)
theorem dX4_store_63 : decode cX4_store 63 = .ok (.bipush 20, 2) := dk_16 20 (dk_at dksX4_store_2 15 rfl rfl)
theorem dX4_store_65 : decode cX4_store 65 = .ok (.iload_n 1, 1) := dk_27 (dk_at dksX4_store_2 17 rfl rfl)
theorem dX4_store_66 : decode cX4_store 66 = .ok (.imul, 1) := dk_104 (dk_at dksX4_store_2 18 rfl rfl)
theorem dX4_store_67 : decode cX4_store 67 = .ok (.iload_n 3, 1) := dk_29 (dk_at dksX4_store_2 19 rfl rfl)
theorem dX4_store_68 : decode cX4_store 68 = .ok (.iadd, 1) := dk_96 (dk_at dksX4_store_2 20 rfl rfl)
theorem dX4_store_69 : decode cX4_store 69 = .ok (.aload_n 0, 1) := dk_42 (dk_at dksX4_store_2 21 rfl rfl)
theorem dX4_store_70 : decode cX4_store 70 = .ok (.getfield 7, 3) := dk_180 0 7 (dk_at dksX4_store_3 0 rfl rfl)
theorem dX4_store_73 : decode cX4_store 73 = .ok (.bipush 95, 2) := dk_16 95 (dk_at dksX4_store_3 3 rfl rfl)
theorem dX4_store_75 : decode cX4_store 75 = .ok (.iload_n 3, 1) := dk_29 (dk_at dksX4_store_3 5 rfl rfl)
theorem dX4_store_76 : decode cX4_store 76 = .ok (.iadd, 1) := dk_96 (dk_at dksX4_store_3 6 rfl rfl)
theorem dX4_store_77 : decode cX4_store 77 = .ok (.iaload, 1) := dk_46 (dk_at dksX4_store_3 7 rfl rfl)
theorem dX4_store_78 : decode cX4_store 78 = .ok (.iastore, 1) := dk_79 (dk_at dksX4_store_3 8 rfl rfl)
theorem dX4_store_79 : decode cX4_store 79 = .ok (.aload_n 0, 1) := dk_42 (dk_at dksX4_store_3 9 rfl rfl)
theorem dX4_store_80 : decode cX4_store 80 = .ok (.getfield 70, 3) := dk_180 0 70 (dk_at dksX4_store_3 10 rfl rfl)
theorem dX4_store_83 : decode cX4_store 83 = .ok (.bipush 20, 2) := dk_16 20 (dk_at dksX4_store_3 13 rfl rfl)
theorem dX4_store_85 : decode cX4_store 85 = .ok (.iload_n 1, 1) := dk_27 (dk_at dksX4_store_3 15 rfl rfl)
theorem dX4_store_86 : decode cX4_store 86 = .ok (.imul, 1) := dk_104 (dk_at dksX4_store_3 16 rfl rfl)
theorem dX4_store_87 : decode cX4_store 87 = .ok (.iload_n 3, 1) := dk_29 (dk_at dksX4_store_3 17 rfl rfl)
theorem dX4_store_88 : decode cX4_store 88 = .ok (.iadd, 1) := dk_96 (dk_at dksX4_store_3 18 rfl rfl)
theorem dX4_store_89 : decode cX4_store 89 = .ok (.aload_n 0, 1) := dk_42 (dk_at dksX4_store_3 19 rfl rfl)
theorem dX4_store_90 : decode cX4_store 90 = .ok (.iload_n 3, 1) := dk_29 (dk_at dksX4_store_3 20 rfl rfl)
theorem dX4_store_91 : decode cX4_store 91 = .ok (.invokevirtual 190, 3) := dk_182 0 190 (dk_at dksX4_store_3 21 rfl rfl)
theorem dX4_store_94 : decode cX4_store 94 = .ok (.fastore, 1) := dk_81 (dk_at dksX4_store_4 0 rfl rfl)
theorem dX4_store_95 : decode cX4_store 95 = .ok (.iinc 3 1, 3) := dk_132 3 1 (dk_at dksX4_store_4 1 rfl rfl)
theorem dX4_store_98 : decode cX4_store 98 = .ok (.goto (-49), 3) := dk_167 255 207 (dk_at dksX4_store_4 4 rfl rfl)
theorem dX4_store_101 : decode cX4_store 101 = .ok (.aload_n 0, 1) := dk_42 (dk_at dksX4_store_4 7 rfl rfl)
theorem dX4_store_102 : decode cX4_store 102 = .ok (.getfield 7, 3) := dk_180 0 7 (dk_at dksX4_store_4 8 rfl rfl)
theorem dX4_store_105 : decode cX4_store 105 = .ok (.iconst 1, 1) := dk_4 (dk_at dksX4_store_4 11 rfl rfl)
theorem dX4_store_106 : decode cX4_store 106 = .ok (.iaload, 1) := dk_46 (dk_at dksX4_store_4 12 rfl rfl)
theorem dX4_store_107 : decode cX4_store 107 = .ok (.ireturn, 1) := dk_172 (dk_at dksX4_store_4 13 rfl rfl)
abbrev cX4_copyRow : ByteArray := prog_14_method_83_code
def yX4_copyRow : MethodName := ⟨RX4, "copyRow", "(II)I"⟩
def dkwX4_copyRow_8 : List UInt8 := [132, 5, 1, 167, 255, 172, 21, 4, 172]
abbrev dktX4_copyRow_8 : List UInt8 := dkwX4_copyRow_8 ++ []
def dkwX4_copyRow_7 : List UInt8 := [180, 0, 70, 16, 20, 29, 104, 21, 5, 96, 42, 180, 0, 70, 16, 20, 27, 104, 21, 5, 96, 48, 81]
abbrev dktX4_copyRow_7 : List UInt8 := dkwX4_copyRow_7 ++ dktX4_copyRow_8
def dkwX4_copyRow_6 : List UInt8 := [180, 0, 61, 16, 20, 29, 104, 21, 5, 96, 42, 180, 0, 61, 16, 20, 27, 104, 21, 5, 96, 46, 79, 42]
abbrev dktX4_copyRow_6 : List UInt8 := dkwX4_copyRow_6 ++ dktX4_copyRow_7
def dkwX4_copyRow_5 : List UInt8 := [182, 1, 48, 42, 29, 21, 5, 182, 1, 48, 160, 0, 7, 3, 167, 0, 4, 4, 96, 54, 4, 42]
abbrev dktX4_copyRow_5 : List UInt8 := dkwX4_copyRow_5 ++ dktX4_copyRow_6
def dkwX4_copyRow_4 : List UInt8 := [7, 182, 0, 101, 172, 3, 54, 4, 3, 54, 5, 21, 5, 28, 162, 0, 84, 21, 4, 42, 27, 21, 5]
abbrev dktX4_copyRow_4 : List UInt8 := dkwX4_copyRow_4 ++ dktX4_copyRow_5
def dkwX4_copyRow_3 : List UInt8 := [155, 0, 23, 28, 42, 180, 0, 64, 3, 46, 163, 0, 13, 28, 42, 180, 0, 64, 4, 46, 164, 0, 9, 42]
abbrev dktX4_copyRow_3 : List UInt8 := dkwX4_copyRow_3 ++ dktX4_copyRow_4
def dkwX4_copyRow_2 : List UInt8 := [42, 180, 0, 67, 3, 46, 42, 180, 0, 67, 4, 46, 159, 0, 9, 42, 6, 182, 0, 101, 172, 28]
abbrev dktX4_copyRow_2 : List UInt8 := dkwX4_copyRow_2 ++ dktX4_copyRow_3
def dkwX4_copyRow_1 : List UInt8 := [42, 180, 0, 67, 3, 46, 153, 0, 12, 42, 180, 0, 67, 4, 46, 154, 0, 9, 42, 5, 182, 0, 101, 172]
abbrev dktX4_copyRow_1 : List UInt8 := dkwX4_copyRow_1 ++ dktX4_copyRow_2
def dkwX4_copyRow_0 : List UInt8 := [42, 3, 181, 0, 84, 27, 3, 4, 184, 0, 209, 154, 0, 9, 42, 4, 182, 0, 101, 172, 4, 27, 100, 62]
abbrev dktX4_copyRow_0 : List UInt8 := dkwX4_copyRow_0 ++ dktX4_copyRow_1
theorem dksX4_copyRow_0 : cX4_copyRow.data.toList.drop 0 = dktX4_copyRow_0 := by decide +kernel
theorem dksX4_copyRow_1 : cX4_copyRow.data.toList.drop 24 = dktX4_copyRow_1 := dk_seg dksX4_copyRow_0 24 rfl rfl
theorem dksX4_copyRow_2 : cX4_copyRow.data.toList.drop 48 = dktX4_copyRow_2 := dk_seg dksX4_copyRow_1 24 rfl rfl
theorem dksX4_copyRow_3 : cX4_copyRow.data.toList.drop 70 = dktX4_copyRow_3 := dk_seg dksX4_copyRow_2 22 rfl rfl
theorem dksX4_copyRow_4 : cX4_copyRow.data.toList.drop 94 = dktX4_copyRow_4 := dk_seg dksX4_copyRow_3 24 rfl rfl
theorem dksX4_copyRow_5 : cX4_copyRow.data.toList.drop 117 = dktX4_copyRow_5 := dk_seg dksX4_copyRow_4 23 rfl rfl
theorem dksX4_copyRow_6 : cX4_copyRow.data.toList.drop 139 = dktX4_copyRow_6 := dk_seg dksX4_copyRow_5 22 rfl rfl
theorem dksX4_copyRow_7 : cX4_copyRow.data.toList.drop 163 = dktX4_copyRow_7 := dk_seg dksX4_copyRow_6 24 rfl rfl
theorem dksX4_copyRow_8 : cX4_copyRow.data.toList.drop 186 = dktX4_copyRow_8 := dk_seg dksX4_copyRow_7 23 rfl rfl
theorem dX4_copyRow_0 : decode cX4_copyRow 0 = .ok (.aload_n 0, 1) := dk_42 (dk_at dksX4_copyRow_0 0 rfl rfl)
theorem dX4_copyRow_1 : decode cX4_copyRow 1 = .ok (.iconst 0, 1) := dk_3 (dk_at dksX4_copyRow_0 1 rfl rfl)
theorem dX4_copyRow_2 : decode cX4_copyRow 2 = .ok (.putfield 84, 3) := dk_181 0 84 (dk_at dksX4_copyRow_0 2 rfl rfl)
theorem dX4_copyRow_5 : decode cX4_copyRow 5 = .ok (.iload_n 1, 1) := dk_27 (dk_at dksX4_copyRow_0 5 rfl rfl)
theorem dX4_copyRow_6 : decode cX4_copyRow 6 = .ok (.iconst 0, 1) := dk_3 (dk_at dksX4_copyRow_0 6 rfl rfl)
theorem dX4_copyRow_7 : decode cX4_copyRow 7 = .ok (.iconst 1, 1) := dk_4 (dk_at dksX4_copyRow_0 7 rfl rfl)
theorem dX4_copyRow_8 : decode cX4_copyRow 8 = .ok (.invokestatic 209, 3) := dk_184 0 209 (dk_at dksX4_copyRow_0 8 rfl rfl)
theorem dX4_copyRow_11 : decode cX4_copyRow 11 = .ok (.ifCond .ne 9, 3) := dk_154 0 9 (dk_at dksX4_copyRow_0 11 rfl rfl)
theorem dX4_copyRow_14 : decode cX4_copyRow 14 = .ok (.aload_n 0, 1) := dk_42 (dk_at dksX4_copyRow_0 14 rfl rfl)
theorem dX4_copyRow_15 : decode cX4_copyRow 15 = .ok (.iconst 1, 1) := dk_4 (dk_at dksX4_copyRow_0 15 rfl rfl)
theorem dX4_copyRow_16 : decode cX4_copyRow 16 = .ok (.invokevirtual 101, 3) := dk_182 0 101 (dk_at dksX4_copyRow_0 16 rfl rfl)
theorem dX4_copyRow_19 : decode cX4_copyRow 19 = .ok (.ireturn, 1) := dk_172 (dk_at dksX4_copyRow_0 19 rfl rfl)
theorem dX4_copyRow_20 : decode cX4_copyRow 20 = .ok (.iconst 1, 1) := dk_4 (dk_at dksX4_copyRow_0 20 rfl rfl)
theorem dX4_copyRow_21 : decode cX4_copyRow 21 = .ok (.iload_n 1, 1) := dk_27 (dk_at dksX4_copyRow_0 21 rfl rfl)
theorem dX4_copyRow_22 : decode cX4_copyRow 22 = .ok (.isub, 1) := dk_100 (dk_at dksX4_copyRow_0 22 rfl rfl)
theorem dX4_copyRow_23 : decode cX4_copyRow 23 = .ok (.istore_n 3, 1) := dk_62 (dk_at dksX4_copyRow_0 23 rfl rfl)
theorem dX4_copyRow_24 : decode cX4_copyRow 24 = .ok (.aload_n 0, 1) := dk_42 (dk_at dksX4_copyRow_1 0 rfl rfl)
theorem dX4_copyRow_25 : decode cX4_copyRow 25 = .ok (.getfield 67, 3) := dk_180 0 67 (dk_at dksX4_copyRow_1 1 rfl rfl)
theorem dX4_copyRow_28 : decode cX4_copyRow 28 = .ok (.iconst 0, 1) := dk_3 (dk_at dksX4_copyRow_1 4 rfl rfl)
theorem dX4_copyRow_29 : decode cX4_copyRow 29 = .ok (.iaload, 1) := dk_46 (dk_at dksX4_copyRow_1 5 rfl rfl)
theorem dX4_copyRow_30 : decode cX4_copyRow 30 = .ok (.ifCond .eq 12, 3) := dk_153 0 12 (dk_at dksX4_copyRow_1 6 rfl rfl)
theorem dX4_copyRow_33 : decode cX4_copyRow 33 = .ok (.aload_n 0, 1) := dk_42 (dk_at dksX4_copyRow_1 9 rfl rfl)
theorem dX4_copyRow_34 : decode cX4_copyRow 34 = .ok (.getfield 67, 3) := dk_180 0 67 (dk_at dksX4_copyRow_1 10 rfl rfl)
theorem dX4_copyRow_37 : decode cX4_copyRow 37 = .ok (.iconst 1, 1) := dk_4 (dk_at dksX4_copyRow_1 13 rfl rfl)
theorem dX4_copyRow_38 : decode cX4_copyRow 38 = .ok (.iaload, 1) := dk_46 (dk_at dksX4_copyRow_1 14 rfl rfl)
theorem dX4_copyRow_39 : decode cX4_copyRow 39 = .ok (.ifCond .ne 9, 3) := dk_154 0 9 (dk_at dksX4_copyRow_1 15 rfl rfl)
theorem dX4_copyRow_42 : decode cX4_copyRow 42 = .ok (.aload_n 0, 1) := dk_42 (dk_at dksX4_copyRow_1 18 rfl rfl)
theorem dX4_copyRow_43 : decode cX4_copyRow 43 = .ok (.iconst 2, 1) := dk_5 (dk_at dksX4_copyRow_1 19 rfl rfl)
theorem dX4_copyRow_44 : decode cX4_copyRow 44 = .ok (.invokevirtual 101, 3) := dk_182 0 101 (dk_at dksX4_copyRow_1 20 rfl rfl)
theorem dX4_copyRow_47 : decode cX4_copyRow 47 = .ok (.ireturn, 1) := dk_172 (dk_at dksX4_copyRow_1 23 rfl rfl)
theorem dX4_copyRow_48 : decode cX4_copyRow 48 = .ok (.aload_n 0, 1) := dk_42 (dk_at dksX4_copyRow_2 0 rfl rfl)
theorem dX4_copyRow_49 : decode cX4_copyRow 49 = .ok (.getfield 67, 3) := dk_180 0 67 (dk_at dksX4_copyRow_2 1 rfl rfl)
theorem dX4_copyRow_52 : decode cX4_copyRow 52 = .ok (.iconst 0, 1) := dk_3 (dk_at dksX4_copyRow_2 4 rfl rfl)
theorem dX4_copyRow_53 : decode cX4_copyRow 53 = .ok (.iaload, 1) := dk_46 (dk_at dksX4_copyRow_2 5 rfl rfl)
theorem dX4_copyRow_54 : decode cX4_copyRow 54 = .ok (.aload_n 0, 1) := dk_42 (dk_at dksX4_copyRow_2 6 rfl rfl)
theorem dX4_copyRow_55 : decode cX4_copyRow 55 = .ok (.getfield 67, 3) := dk_180 0 67 (dk_at dksX4_copyRow_2 7 rfl rfl)
theorem dX4_copyRow_58 : decode cX4_copyRow 58 = .ok (.iconst 1, 1) := dk_4 (dk_at dksX4_copyRow_2 10 rfl rfl)
theorem dX4_copyRow_59 : decode cX4_copyRow 59 = .ok (.iaload, 1) := dk_46 (dk_at dksX4_copyRow_2 11 rfl rfl)
theorem dX4_copyRow_60 : decode cX4_copyRow 60 = .ok (.if_icmp .eq 9, 3) := dk_159 0 9 (dk_at dksX4_copyRow_2 12 rfl rfl)
theorem dX4_copyRow_63 : decode cX4_copyRow 63 = .ok (.aload_n 0, 1) := dk_42 (dk_at dksX4_copyRow_2 15 rfl rfl)
theorem dX4_copyRow_64 : decode cX4_copyRow 64 = .ok (.iconst 3, 1) := dk_6 (dk_at dksX4_copyRow_2 16 rfl rfl)
theorem dX4_copyRow_65 : decode cX4_copyRow 65 = .ok (.invokevirtual 101, 3) := dk_182 0 101 (dk_at dksX4_copyRow_2 17 rfl rfl)
theorem dX4_copyRow_68 : decode cX4_copyRow 68 = .ok (.ireturn, 1) := dk_172 (dk_at dksX4_copyRow_2 20 rfl rfl)
theorem dX4_copyRow_69 : decode cX4_copyRow 69 = .ok (.iload_n 2, 1) := dk_28 (dk_at dksX4_copyRow_2 21 rfl rfl)
theorem dX4_copyRow_70 : decode cX4_copyRow 70 = .ok (.ifCond .lt 23, 3) := dk_155 0 23 (dk_at dksX4_copyRow_3 0 rfl rfl)
theorem dX4_copyRow_73 : decode cX4_copyRow 73 = .ok (.iload_n 2, 1) := dk_28 (dk_at dksX4_copyRow_3 3 rfl rfl)
theorem dX4_copyRow_74 : decode cX4_copyRow 74 = .ok (.aload_n 0, 1) := dk_42 (dk_at dksX4_copyRow_3 4 rfl rfl)
theorem dX4_copyRow_75 : decode cX4_copyRow 75 = .ok (.getfield 64, 3) := dk_180 0 64 (dk_at dksX4_copyRow_3 5 rfl rfl)
theorem dX4_copyRow_78 : decode cX4_copyRow 78 = .ok (.iconst 0, 1) := dk_3 (dk_at dksX4_copyRow_3 8 rfl rfl)
theorem dX4_copyRow_79 : decode cX4_copyRow 79 = .ok (.iaload, 1) := dk_46 (dk_at dksX4_copyRow_3 9 rfl rfl)
theorem dX4_copyRow_80 : decode cX4_copyRow 80 = .ok (.if_icmp .gt 13, 3) := dk_163 0 13 (dk_at dksX4_copyRow_3 10 rfl rfl)
theorem dX4_copyRow_83 : decode cX4_copyRow 83 = .ok (.iload_n 2, 1) := dk_28 (dk_at dksX4_copyRow_3 13 rfl rfl)
theorem dX4_copyRow_84 : decode cX4_copyRow 84 = .ok (.aload_n 0, 1) := dk_42 (dk_at dksX4_copyRow_3 14 rfl rfl)
theorem dX4_copyRow_85 : decode cX4_copyRow 85 = .ok (.getfield 64, 3) := dk_180 0 64 (dk_at dksX4_copyRow_3 15 rfl rfl)
theorem dX4_copyRow_88 : decode cX4_copyRow 88 = .ok (.iconst 1, 1) := dk_4 (dk_at dksX4_copyRow_3 18 rfl rfl)
theorem dX4_copyRow_89 : decode cX4_copyRow 89 = .ok (.iaload, 1) := dk_46 (dk_at dksX4_copyRow_3 19 rfl rfl)
theorem dX4_copyRow_90 : decode cX4_copyRow 90 = .ok (.if_icmp .le 9, 3) := dk_164 0 9 (dk_at dksX4_copyRow_3 20 rfl rfl)
theorem dX4_copyRow_93 : decode cX4_copyRow 93 = .ok (.aload_n 0, 1) := dk_42 (dk_at dksX4_copyRow_3 23 rfl rfl)
theorem dX4_copyRow_94 : decode cX4_copyRow 94 = .ok (.iconst 4, 1) := dk_7 (dk_at dksX4_copyRow_4 0 rfl rfl)
theorem dX4_copyRow_95 : decode cX4_copyRow 95 = .ok (.invokevirtual 101, 3) := dk_182 0 101 (dk_at dksX4_copyRow_4 1 rfl rfl)
theorem dX4_copyRow_98 : decode cX4_copyRow 98 = .ok (.ireturn, 1) := dk_172 (dk_at dksX4_copyRow_4 4 rfl rfl)
theorem dX4_copyRow_99 : decode cX4_copyRow 99 = .ok (.iconst 0, 1) := dk_3 (dk_at dksX4_copyRow_4 5 rfl rfl)
theorem dX4_copyRow_100 : decode cX4_copyRow 100 = .ok (.istore 4, 2) := dk_54 4 (dk_at dksX4_copyRow_4 6 rfl rfl)
theorem dX4_copyRow_102 : decode cX4_copyRow 102 = .ok (.iconst 0, 1) := dk_3 (dk_at dksX4_copyRow_4 8 rfl rfl)
theorem dX4_copyRow_103 : decode cX4_copyRow 103 = .ok (.istore 5, 2) := dk_54 5 (dk_at dksX4_copyRow_4 9 rfl rfl)
theorem dX4_copyRow_105 : decode cX4_copyRow 105 = .ok (.iload 5, 2) := dk_21 5 (dk_at dksX4_copyRow_4 11 rfl rfl)
theorem dX4_copyRow_107 : decode cX4_copyRow 107 = .ok (.iload_n 2, 1) := dk_28 (dk_at dksX4_copyRow_4 13 rfl rfl)
theorem dX4_copyRow_108 : decode cX4_copyRow 108 = .ok (.if_icmp .ge 84, 3) := dk_162 0 84 (dk_at dksX4_copyRow_4 14 rfl rfl)
theorem dX4_copyRow_111 : decode cX4_copyRow 111 = .ok (.iload 4, 2) := dk_21 4 (dk_at dksX4_copyRow_4 17 rfl rfl)
theorem dX4_copyRow_113 : decode cX4_copyRow 113 = .ok (.aload_n 0, 1) := dk_42 (dk_at dksX4_copyRow_4 19 rfl rfl)
theorem dX4_copyRow_114 : decode cX4_copyRow 114 = .ok (.iload_n 1, 1) := dk_27 (dk_at dksX4_copyRow_4 20 rfl rfl)
theorem dX4_copyRow_115 : decode cX4_copyRow 115 = .ok (.iload 5, 2) := dk_21 5 (dk_at dksX4_copyRow_4 21 rfl rfl)
theorem dX4_copyRow_117 : decode cX4_copyRow 117 = .ok (.invokevirtual 304, 3) := dk_182 1 48 (dk_at dksX4_copyRow_5 0 rfl rfl)
theorem dX4_copyRow_120 : decode cX4_copyRow 120 = .ok (.aload_n 0, 1) := dk_42 (dk_at dksX4_copyRow_5 3 rfl rfl)
theorem dX4_copyRow_121 : decode cX4_copyRow 121 = .ok (.iload_n 3, 1) := dk_29 (dk_at dksX4_copyRow_5 4 rfl rfl)
theorem dX4_copyRow_122 : decode cX4_copyRow 122 = .ok (.iload 5, 2) := dk_21 5 (dk_at dksX4_copyRow_5 5 rfl rfl)
theorem dX4_copyRow_124 : decode cX4_copyRow 124 = .ok (.invokevirtual 304, 3) := dk_182 1 48 (dk_at dksX4_copyRow_5 7 rfl rfl)
theorem dX4_copyRow_127 : decode cX4_copyRow 127 = .ok (.if_icmp .ne 7, 3) := dk_160 0 7 (dk_at dksX4_copyRow_5 10 rfl rfl)
theorem dX4_copyRow_130 : decode cX4_copyRow 130 = .ok (.iconst 0, 1) := dk_3 (dk_at dksX4_copyRow_5 13 rfl rfl)
theorem dX4_copyRow_131 : decode cX4_copyRow 131 = .ok (.goto 4, 3) := dk_167 0 4 (dk_at dksX4_copyRow_5 14 rfl rfl)
theorem dX4_copyRow_134 : decode cX4_copyRow 134 = .ok (.iconst 1, 1) := dk_4 (dk_at dksX4_copyRow_5 17 rfl rfl)
theorem dX4_copyRow_135 : decode cX4_copyRow 135 = .ok (.iadd, 1) := dk_96 (dk_at dksX4_copyRow_5 18 rfl rfl)
theorem dX4_copyRow_136 : decode cX4_copyRow 136 = .ok (.istore 4, 2) := dk_54 4 (dk_at dksX4_copyRow_5 19 rfl rfl)
theorem dX4_copyRow_138 : decode cX4_copyRow 138 = .ok (.aload_n 0, 1) := dk_42 (dk_at dksX4_copyRow_5 21 rfl rfl)
theorem dX4_copyRow_139 : decode cX4_copyRow 139 = .ok (.getfield 61, 3) := dk_180 0 61 (dk_at dksX4_copyRow_6 0 rfl rfl)
theorem dX4_copyRow_142 : decode cX4_copyRow 142 = .ok (.bipush 20, 2) := dk_16 20 (dk_at dksX4_copyRow_6 3 rfl rfl)
theorem dX4_copyRow_144 : decode cX4_copyRow 144 = .ok (.iload_n 3, 1) := dk_29 (dk_at dksX4_copyRow_6 5 rfl rfl)
theorem dX4_copyRow_145 : decode cX4_copyRow 145 = .ok (.imul, 1) := dk_104 (dk_at dksX4_copyRow_6 6 rfl rfl)
theorem dX4_copyRow_146 : decode cX4_copyRow 146 = .ok (.iload 5, 2) := dk_21 5 (dk_at dksX4_copyRow_6 7 rfl rfl)
theorem dX4_copyRow_148 : decode cX4_copyRow 148 = .ok (.iadd, 1) := dk_96 (dk_at dksX4_copyRow_6 9 rfl rfl)
theorem dX4_copyRow_149 : decode cX4_copyRow 149 = .ok (.aload_n 0, 1) := dk_42 (dk_at dksX4_copyRow_6 10 rfl rfl)
theorem dX4_copyRow_150 : decode cX4_copyRow 150 = .ok (.getfield 61, 3) := dk_180 0 61 (dk_at dksX4_copyRow_6 11 rfl rfl)
theorem dX4_copyRow_153 : decode cX4_copyRow 153 = .ok (.bipush 20, 2) := dk_16 20 (dk_at dksX4_copyRow_6 14 rfl rfl)
theorem dX4_copyRow_155 : decode cX4_copyRow 155 = .ok (.iload_n 1, 1) := dk_27 (dk_at dksX4_copyRow_6 16 rfl rfl)
theorem dX4_copyRow_156 : decode cX4_copyRow 156 = .ok (.imul, 1) := dk_104 (dk_at dksX4_copyRow_6 17 rfl rfl)
theorem dX4_copyRow_157 : decode cX4_copyRow 157 = .ok (.iload 5, 2) := dk_21 5 (dk_at dksX4_copyRow_6 18 rfl rfl)
theorem dX4_copyRow_159 : decode cX4_copyRow 159 = .ok (.iadd, 1) := dk_96 (dk_at dksX4_copyRow_6 20 rfl rfl)
theorem dX4_copyRow_160 : decode cX4_copyRow 160 = .ok (.iaload, 1) := dk_46 (dk_at dksX4_copyRow_6 21 rfl rfl)
theorem dX4_copyRow_161 : decode cX4_copyRow 161 = .ok (.iastore, 1) := dk_79 (dk_at dksX4_copyRow_6 22 rfl rfl)
theorem dX4_copyRow_162 : decode cX4_copyRow 162 = .ok (.aload_n 0, 1) := dk_42 (dk_at dksX4_copyRow_6 23 rfl rfl)
theorem dX4_copyRow_163 : decode cX4_copyRow 163 = .ok (.getfield 70, 3) := dk_180 0 70 (dk_at dksX4_copyRow_7 0 rfl rfl)
theorem dX4_copyRow_166 : decode cX4_copyRow 166 = .ok (.bipush 20, 2) := dk_16 20 (dk_at dksX4_copyRow_7 3 rfl rfl)
theorem dX4_copyRow_168 : decode cX4_copyRow 168 = .ok (.iload_n 3, 1) := dk_29 (dk_at dksX4_copyRow_7 5 rfl rfl)
theorem dX4_copyRow_169 : decode cX4_copyRow 169 = .ok (.imul, 1) := dk_104 (dk_at dksX4_copyRow_7 6 rfl rfl)
theorem dX4_copyRow_170 : decode cX4_copyRow 170 = .ok (.iload 5, 2) := dk_21 5 (dk_at dksX4_copyRow_7 7 rfl rfl)
theorem dX4_copyRow_172 : decode cX4_copyRow 172 = .ok (.iadd, 1) := dk_96 (dk_at dksX4_copyRow_7 9 rfl rfl)
theorem dX4_copyRow_173 : decode cX4_copyRow 173 = .ok (.aload_n 0, 1) := dk_42 (dk_at dksX4_copyRow_7 10 rfl rfl)
theorem dX4_copyRow_174 : decode cX4_copyRow 174 = .ok (.getfield 70, 3) := dk_180 0 70 (dk_at dksX4_copyRow_7 11 rfl rfl)
theorem dX4_copyRow_177 : decode cX4_copyRow 177 = .ok (.bipush 20, 2) := dk_16 20 (dk_at dksX4_copyRow_7 14 rfl rfl)
theorem dX4_copyRow_179 : decode cX4_copyRow 179 = .ok (.iload_n 1, 1) := dk_27 (dk_at dksX4_copyRow_7 16 rfl rfl)
theorem dX4_copyRow_180 : decode cX4_copyRow 180 = .ok (.imul, 1) := dk_104 (dk_at dksX4_copyRow_7 17 rfl rfl)
theorem dX4_copyRow_181 : decode cX4_copyRow 181 = .ok (.iload 5, 2) := dk_21 5 (dk_at dksX4_copyRow_7 18 rfl rfl)
theorem dX4_copyRow_183 : decode cX4_copyRow 183 = .ok (.iadd, 1) := dk_96 (dk_at dksX4_copyRow_7 20 rfl rfl)
theorem dX4_copyRow_184 : decode cX4_copyRow 184 = .ok (.faload, 1) := dk_48 (dk_at dksX4_copyRow_7 21 rfl rfl)
theorem dX4_copyRow_185 : decode cX4_copyRow 185 = .ok (.fastore, 1) := dk_81 (dk_at dksX4_copyRow_7 22 rfl rfl)
theorem dX4_copyRow_186 : decode cX4_copyRow 186 = .ok (.iinc 5 1, 3) := dk_132 5 1 (dk_at dksX4_copyRow_8 0 rfl rfl)
theorem dX4_copyRow_189 : decode cX4_copyRow 189 = .ok (.goto (-84), 3) := dk_167 255 172 (dk_at dksX4_copyRow_8 3 rfl rfl)
theorem dX4_copyRow_192 : decode cX4_copyRow 192 = .ok (.iload 4, 2) := dk_21 4 (dk_at dksX4_copyRow_8 6 rfl rfl)
theorem dX4_copyRow_194 : decode cX4_copyRow 194 = .ok (.ireturn, 1) := dk_172 (dk_at dksX4_copyRow_8 8 rfl rfl)
abbrev cX4_bitsAt : ByteArray := prog_14_method_82_code
def yX4_bitsAt : MethodName := ⟨RX4, "bitsAt", "(II)I"⟩
def dkwX4_bitsAt_1 : List UInt8 := [42, 180, 0, 70, 16, 20, 27, 104, 28, 96, 48, 184, 0, 110, 172]
abbrev dktX4_bitsAt_1 : List UInt8 := dkwX4_bitsAt_1 ++ []
def dkwX4_bitsAt_0 : List UInt8 := [42, 180, 0, 67, 27, 46, 4, 160, 0, 17, 42, 180, 0, 61, 16, 20, 27, 104, 28, 96, 46, 167, 0, 17]
abbrev dktX4_bitsAt_0 : List UInt8 := dkwX4_bitsAt_0 ++ dktX4_bitsAt_1
theorem dksX4_bitsAt_0 : cX4_bitsAt.data.toList.drop 0 = dktX4_bitsAt_0 := by decide +kernel
theorem dksX4_bitsAt_1 : cX4_bitsAt.data.toList.drop 24 = dktX4_bitsAt_1 := dk_seg dksX4_bitsAt_0 24 rfl rfl
theorem dX4_bitsAt_0 : decode cX4_bitsAt 0 = .ok (.aload_n 0, 1) := dk_42 (dk_at dksX4_bitsAt_0 0 rfl rfl)
theorem dX4_bitsAt_1 : decode cX4_bitsAt 1 = .ok (.getfield 67, 3) := dk_180 0 67 (dk_at dksX4_bitsAt_0 1 rfl rfl)
theorem dX4_bitsAt_4 : decode cX4_bitsAt 4 = .ok (.iload_n 1, 1) := dk_27 (dk_at dksX4_bitsAt_0 4 rfl rfl)
theorem dX4_bitsAt_5 : decode cX4_bitsAt 5 = .ok (.iaload, 1) := dk_46 (dk_at dksX4_bitsAt_0 5 rfl rfl)
theorem dX4_bitsAt_6 : decode cX4_bitsAt 6 = .ok (.iconst 1, 1) := dk_4 (dk_at dksX4_bitsAt_0 6 rfl rfl)
theorem dX4_bitsAt_7 : decode cX4_bitsAt 7 = .ok (.if_icmp .ne 17, 3) := dk_160 0 17 (dk_at dksX4_bitsAt_0 7 rfl rfl)
theorem dX4_bitsAt_10 : decode cX4_bitsAt 10 = .ok (.aload_n 0, 1) := dk_42 (dk_at dksX4_bitsAt_0 10 rfl rfl)
theorem dX4_bitsAt_11 : decode cX4_bitsAt 11 = .ok (.getfield 61, 3) := dk_180 0 61 (dk_at dksX4_bitsAt_0 11 rfl rfl)
theorem dX4_bitsAt_14 : decode cX4_bitsAt 14 = .ok (.bipush 20, 2) := dk_16 20 (dk_at dksX4_bitsAt_0 14 rfl rfl)
theorem dX4_bitsAt_16 : decode cX4_bitsAt 16 = .ok (.iload_n 1, 1) := dk_27 (dk_at dksX4_bitsAt_0 16 rfl rfl)
theorem dX4_bitsAt_17 : decode cX4_bitsAt 17 = .ok (.imul, 1) := dk_104 (dk_at dksX4_bitsAt_0 17 rfl rfl)
theorem dX4_bitsAt_18 : decode cX4_bitsAt 18 = .ok (.iload_n 2, 1) := dk_28 (dk_at dksX4_bitsAt_0 18 rfl rfl)
theorem dX4_bitsAt_19 : decode cX4_bitsAt 19 = .ok (.iadd, 1) := dk_96 (dk_at dksX4_bitsAt_0 19 rfl rfl)
theorem dX4_bitsAt_20 : decode cX4_bitsAt 20 = .ok (.iaload, 1) := dk_46 (dk_at dksX4_bitsAt_0 20 rfl rfl)
theorem dX4_bitsAt_21 : decode cX4_bitsAt 21 = .ok (.goto 17, 3) := dk_167 0 17 (dk_at dksX4_bitsAt_0 21 rfl rfl)
theorem dX4_bitsAt_24 : decode cX4_bitsAt 24 = .ok (.aload_n 0, 1) := dk_42 (dk_at dksX4_bitsAt_1 0 rfl rfl)
theorem dX4_bitsAt_25 : decode cX4_bitsAt 25 = .ok (.getfield 70, 3) := dk_180 0 70 (dk_at dksX4_bitsAt_1 1 rfl rfl)
theorem dX4_bitsAt_28 : decode cX4_bitsAt 28 = .ok (.bipush 20, 2) := dk_16 20 (dk_at dksX4_bitsAt_1 4 rfl rfl)
theorem dX4_bitsAt_30 : decode cX4_bitsAt 30 = .ok (.iload_n 1, 1) := dk_27 (dk_at dksX4_bitsAt_1 6 rfl rfl)
theorem dX4_bitsAt_31 : decode cX4_bitsAt 31 = .ok (.imul, 1) := dk_104 (dk_at dksX4_bitsAt_1 7 rfl rfl)
theorem dX4_bitsAt_32 : decode cX4_bitsAt 32 = .ok (.iload_n 2, 1) := dk_28 (dk_at dksX4_bitsAt_1 8 rfl rfl)
theorem dX4_bitsAt_33 : decode cX4_bitsAt 33 = .ok (.iadd, 1) := dk_96 (dk_at dksX4_bitsAt_1 9 rfl rfl)
theorem dX4_bitsAt_34 : decode cX4_bitsAt 34 = .ok (.faload, 1) := dk_48 (dk_at dksX4_bitsAt_1 10 rfl rfl)
theorem dX4_bitsAt_35 : decode cX4_bitsAt 35 = .ok (.invokestatic 110, 3) := dk_184 0 110 (dk_at dksX4_bitsAt_1 11 rfl rfl)
theorem dX4_bitsAt_38 : decode cX4_bitsAt 38 = .ok (.ireturn, 1) := dk_172 (dk_at dksX4_bitsAt_1 14 rfl rfl)
abbrev cX4_element : ByteArray := prog_14_method_84_code
def yX4_element : MethodName := ⟨RX4, "element", "(II)I"⟩
def dkwX4_element_2 : List UInt8 := [182, 1, 48, 167, 0, 8, 42, 5, 182, 0, 101, 172]
abbrev dktX4_element_2 : List UInt8 := dkwX4_element_2 ++ []
def dkwX4_element_1 : List UInt8 := [27, 46, 158, 0, 28, 28, 3, 42, 180, 0, 64, 27, 46, 4, 100, 184, 0, 209, 153, 0, 12, 42, 27, 28]
abbrev dktX4_element_1 : List UInt8 := dkwX4_element_1 ++ dktX4_element_2
def dkwX4_element_0 : List UInt8 := [42, 3, 181, 0, 84, 27, 3, 4, 184, 0, 209, 154, 0, 9, 42, 4, 182, 0, 101, 172, 42, 180, 0, 67]
abbrev dktX4_element_0 : List UInt8 := dkwX4_element_0 ++ dktX4_element_1
theorem dksX4_element_0 : cX4_element.data.toList.drop 0 = dktX4_element_0 := by decide +kernel
theorem dksX4_element_1 : cX4_element.data.toList.drop 24 = dktX4_element_1 := dk_seg dksX4_element_0 24 rfl rfl
theorem dksX4_element_2 : cX4_element.data.toList.drop 48 = dktX4_element_2 := dk_seg dksX4_element_1 24 rfl rfl
theorem dX4_element_0 : decode cX4_element 0 = .ok (.aload_n 0, 1) := dk_42 (dk_at dksX4_element_0 0 rfl rfl)
theorem dX4_element_1 : decode cX4_element 1 = .ok (.iconst 0, 1) := dk_3 (dk_at dksX4_element_0 1 rfl rfl)
theorem dX4_element_2 : decode cX4_element 2 = .ok (.putfield 84, 3) := dk_181 0 84 (dk_at dksX4_element_0 2 rfl rfl)
theorem dX4_element_5 : decode cX4_element 5 = .ok (.iload_n 1, 1) := dk_27 (dk_at dksX4_element_0 5 rfl rfl)
theorem dX4_element_6 : decode cX4_element 6 = .ok (.iconst 0, 1) := dk_3 (dk_at dksX4_element_0 6 rfl rfl)
theorem dX4_element_7 : decode cX4_element 7 = .ok (.iconst 1, 1) := dk_4 (dk_at dksX4_element_0 7 rfl rfl)
theorem dX4_element_8 : decode cX4_element 8 = .ok (.invokestatic 209, 3) := dk_184 0 209 (dk_at dksX4_element_0 8 rfl rfl)
theorem dX4_element_11 : decode cX4_element 11 = .ok (.ifCond .ne 9, 3) := dk_154 0 9 (dk_at dksX4_element_0 11 rfl rfl)
theorem dX4_element_14 : decode cX4_element 14 = .ok (.aload_n 0, 1) := dk_42 (dk_at dksX4_element_0 14 rfl rfl)
theorem dX4_element_15 : decode cX4_element 15 = .ok (.iconst 1, 1) := dk_4 (dk_at dksX4_element_0 15 rfl rfl)
theorem dX4_element_16 : decode cX4_element 16 = .ok (.invokevirtual 101, 3) := dk_182 0 101 (dk_at dksX4_element_0 16 rfl rfl)
theorem dX4_element_19 : decode cX4_element 19 = .ok (.ireturn, 1) := dk_172 (dk_at dksX4_element_0 19 rfl rfl)
theorem dX4_element_20 : decode cX4_element 20 = .ok (.aload_n 0, 1) := dk_42 (dk_at dksX4_element_0 20 rfl rfl)
theorem dX4_element_21 : decode cX4_element 21 = .ok (.getfield 67, 3) := dk_180 0 67 (dk_at dksX4_element_0 21 rfl rfl)
theorem dX4_element_24 : decode cX4_element 24 = .ok (.iload_n 1, 1) := dk_27 (dk_at dksX4_element_1 0 rfl rfl)
theorem dX4_element_25 : decode cX4_element 25 = .ok (.iaload, 1) := dk_46 (dk_at dksX4_element_1 1 rfl rfl)
theorem dX4_element_26 : decode cX4_element 26 = .ok (.ifCond .le 28, 3) := dk_158 0 28 (dk_at dksX4_element_1 2 rfl rfl)
theorem dX4_element_29 : decode cX4_element 29 = .ok (.iload_n 2, 1) := dk_28 (dk_at dksX4_element_1 5 rfl rfl)
theorem dX4_element_30 : decode cX4_element 30 = .ok (.iconst 0, 1) := dk_3 (dk_at dksX4_element_1 6 rfl rfl)
theorem dX4_element_31 : decode cX4_element 31 = .ok (.aload_n 0, 1) := dk_42 (dk_at dksX4_element_1 7 rfl rfl)
theorem dX4_element_32 : decode cX4_element 32 = .ok (.getfield 64, 3) := dk_180 0 64 (dk_at dksX4_element_1 8 rfl rfl)
theorem dX4_element_35 : decode cX4_element 35 = .ok (.iload_n 1, 1) := dk_27 (dk_at dksX4_element_1 11 rfl rfl)
theorem dX4_element_36 : decode cX4_element 36 = .ok (.iaload, 1) := dk_46 (dk_at dksX4_element_1 12 rfl rfl)
theorem dX4_element_37 : decode cX4_element 37 = .ok (.iconst 1, 1) := dk_4 (dk_at dksX4_element_1 13 rfl rfl)
theorem dX4_element_38 : decode cX4_element 38 = .ok (.isub, 1) := dk_100 (dk_at dksX4_element_1 14 rfl rfl)
theorem dX4_element_39 : decode cX4_element 39 = .ok (.invokestatic 209, 3) := dk_184 0 209 (dk_at dksX4_element_1 15 rfl rfl)
theorem dX4_element_42 : decode cX4_element 42 = .ok (.ifCond .eq 12, 3) := dk_153 0 12 (dk_at dksX4_element_1 18 rfl rfl)
theorem dX4_element_45 : decode cX4_element 45 = .ok (.aload_n 0, 1) := dk_42 (dk_at dksX4_element_1 21 rfl rfl)
theorem dX4_element_46 : decode cX4_element 46 = .ok (.iload_n 1, 1) := dk_27 (dk_at dksX4_element_1 22 rfl rfl)
theorem dX4_element_47 : decode cX4_element 47 = .ok (.iload_n 2, 1) := dk_28 (dk_at dksX4_element_1 23 rfl rfl)
theorem dX4_element_48 : decode cX4_element 48 = .ok (.invokevirtual 304, 3) := dk_182 1 48 (dk_at dksX4_element_2 0 rfl rfl)
theorem dX4_element_51 : decode cX4_element 51 = .ok (.goto 8, 3) := dk_167 0 8 (dk_at dksX4_element_2 3 rfl rfl)
theorem dX4_element_54 : decode cX4_element 54 = .ok (.aload_n 0, 1) := dk_42 (dk_at dksX4_element_2 6 rfl rfl)
theorem dX4_element_55 : decode cX4_element 55 = .ok (.iconst 2, 1) := dk_5 (dk_at dksX4_element_2 7 rfl rfl)
theorem dX4_element_56 : decode cX4_element 56 = .ok (.invokevirtual 101, 3) := dk_182 0 101 (dk_at dksX4_element_2 8 rfl rfl)
theorem dX4_element_59 : decode cX4_element 59 = .ok (.ireturn, 1) := dk_172 (dk_at dksX4_element_2 11 rfl rfl)
abbrev cX4_append : ByteArray := prog_14_method_85_code
def yX4_append : MethodName := ⟨RX4, "append", "(I)I"⟩
def dkwX4_append_5 : List UInt8 := [180, 0, 228, 4, 96, 181, 0, 228, 132, 3, 248, 167, 255, 211, 42, 180, 0, 228, 172]
abbrev dktX4_append_5 : List UInt8 := dkwX4_append_5 ++ []
def dkwX4_append_4 : List UInt8 := [126, 54, 4, 21, 4, 154, 0, 6, 167, 0, 24, 42, 180, 0, 26, 42, 180, 0, 228, 21, 4, 79, 42, 89]
abbrev dktX4_append_4 : List UInt8 := dkwX4_append_4 ++ dktX4_append_5
def dkwX4_append_3 : List UInt8 := [16, 60, 164, 0, 9, 42, 5, 182, 0, 101, 172, 16, 24, 62, 29, 155, 0, 47, 27, 29, 124, 17, 0, 255]
abbrev dktX4_append_3 : List UInt8 := dkwX4_append_3 ++ dktX4_append_4
def dkwX4_append_2 : List UInt8 := [21, 4, 154, 0, 7, 3, 167, 0, 4, 4, 96, 61, 132, 3, 248, 167, 255, 204, 42, 180, 0, 228, 28, 96]
abbrev dktX4_append_2 : List UInt8 := dkwX4_append_2 ++ dktX4_append_3
def dkwX4_append_1 : List UInt8 := [21, 4, 153, 0, 21, 21, 4, 16, 32, 16, 126, 184, 0, 209, 154, 0, 9, 42, 4, 182, 0, 101, 172, 28]
abbrev dktX4_append_1 : List UInt8 := dkwX4_append_1 ++ dktX4_append_2
def dkwX4_append_0 : List UInt8 := [42, 3, 181, 0, 84, 3, 61, 16, 24, 62, 29, 155, 0, 54, 27, 29, 124, 17, 0, 255, 126, 54, 4]
abbrev dktX4_append_0 : List UInt8 := dkwX4_append_0 ++ dktX4_append_1
theorem dksX4_append_0 : cX4_append.data.toList.drop 0 = dktX4_append_0 := by decide +kernel
theorem dksX4_append_1 : cX4_append.data.toList.drop 23 = dktX4_append_1 := dk_seg dksX4_append_0 23 rfl rfl
theorem dksX4_append_2 : cX4_append.data.toList.drop 47 = dktX4_append_2 := dk_seg dksX4_append_1 24 rfl rfl
theorem dksX4_append_3 : cX4_append.data.toList.drop 71 = dktX4_append_3 := dk_seg dksX4_append_2 24 rfl rfl
theorem dksX4_append_4 : cX4_append.data.toList.drop 95 = dktX4_append_4 := dk_seg dksX4_append_3 24 rfl rfl
theorem dksX4_append_5 : cX4_append.data.toList.drop 119 = dktX4_append_5 := dk_seg dksX4_append_4 24 rfl rfl
theorem dX4_append_0 : decode cX4_append 0 = .ok (.aload_n 0, 1) := dk_42 (dk_at dksX4_append_0 0 rfl rfl)
theorem dX4_append_1 : decode cX4_append 1 = .ok (.iconst 0, 1) := dk_3 (dk_at dksX4_append_0 1 rfl rfl)
theorem dX4_append_2 : decode cX4_append 2 = .ok (.putfield 84, 3) := dk_181 0 84 (dk_at dksX4_append_0 2 rfl rfl)
theorem dX4_append_5 : decode cX4_append 5 = .ok (.iconst 0, 1) := dk_3 (dk_at dksX4_append_0 5 rfl rfl)
theorem dX4_append_6 : decode cX4_append 6 = .ok (.istore_n 2, 1) := dk_61 (dk_at dksX4_append_0 6 rfl rfl)
theorem dX4_append_7 : decode cX4_append 7 = .ok (.bipush 24, 2) := dk_16 24 (dk_at dksX4_append_0 7 rfl rfl)
theorem dX4_append_9 : decode cX4_append 9 = .ok (.istore_n 3, 1) := dk_62 (dk_at dksX4_append_0 9 rfl rfl)
theorem dX4_append_10 : decode cX4_append 10 = .ok (.iload_n 3, 1) := dk_29 (dk_at dksX4_append_0 10 rfl rfl)
theorem dX4_append_11 : decode cX4_append 11 = .ok (.ifCond .lt 54, 3) := dk_155 0 54 (dk_at dksX4_append_0 11 rfl rfl)
theorem dX4_append_14 : decode cX4_append 14 = .ok (.iload_n 1, 1) := dk_27 (dk_at dksX4_append_0 14 rfl rfl)
theorem dX4_append_15 : decode cX4_append 15 = .ok (.iload_n 3, 1) := dk_29 (dk_at dksX4_append_0 15 rfl rfl)
theorem dX4_append_16 : decode cX4_append 16 = .ok (.iushr, 1) := dk_124 (dk_at dksX4_append_0 16 rfl rfl)
theorem dX4_append_17 : decode cX4_append 17 = .ok (.sipush 255, 3) := dk_17 0 255 (dk_at dksX4_append_0 17 rfl rfl)
theorem dX4_append_20 : decode cX4_append 20 = .ok (.iand, 1) := dk_126 (dk_at dksX4_append_0 20 rfl rfl)
theorem dX4_append_21 : decode cX4_append 21 = .ok (.istore 4, 2) := dk_54 4 (dk_at dksX4_append_0 21 rfl rfl)
theorem dX4_append_23 : decode cX4_append 23 = .ok (.iload 4, 2) := dk_21 4 (dk_at dksX4_append_1 0 rfl rfl)
theorem dX4_append_25 : decode cX4_append 25 = .ok (.ifCond .eq 21, 3) := dk_153 0 21 (dk_at dksX4_append_1 2 rfl rfl)
theorem dX4_append_28 : decode cX4_append 28 = .ok (.iload 4, 2) := dk_21 4 (dk_at dksX4_append_1 5 rfl rfl)
theorem dX4_append_30 : decode cX4_append 30 = .ok (.bipush 32, 2) := dk_16 32 (dk_at dksX4_append_1 7 rfl rfl)
theorem dX4_append_32 : decode cX4_append 32 = .ok (.bipush 126, 2) := dk_16 126 (dk_at dksX4_append_1 9 rfl rfl)
theorem dX4_append_34 : decode cX4_append 34 = .ok (.invokestatic 209, 3) := dk_184 0 209 (dk_at dksX4_append_1 11 rfl rfl)
theorem dX4_append_37 : decode cX4_append 37 = .ok (.ifCond .ne 9, 3) := dk_154 0 9 (dk_at dksX4_append_1 14 rfl rfl)
theorem dX4_append_40 : decode cX4_append 40 = .ok (.aload_n 0, 1) := dk_42 (dk_at dksX4_append_1 17 rfl rfl)
theorem dX4_append_41 : decode cX4_append 41 = .ok (.iconst 1, 1) := dk_4 (dk_at dksX4_append_1 18 rfl rfl)
theorem dX4_append_42 : decode cX4_append 42 = .ok (.invokevirtual 101, 3) := dk_182 0 101 (dk_at dksX4_append_1 19 rfl rfl)
theorem dX4_append_45 : decode cX4_append 45 = .ok (.ireturn, 1) := dk_172 (dk_at dksX4_append_1 22 rfl rfl)
theorem dX4_append_46 : decode cX4_append 46 = .ok (.iload_n 2, 1) := dk_28 (dk_at dksX4_append_1 23 rfl rfl)
theorem dX4_append_47 : decode cX4_append 47 = .ok (.iload 4, 2) := dk_21 4 (dk_at dksX4_append_2 0 rfl rfl)
theorem dX4_append_49 : decode cX4_append 49 = .ok (.ifCond .ne 7, 3) := dk_154 0 7 (dk_at dksX4_append_2 2 rfl rfl)
theorem dX4_append_52 : decode cX4_append 52 = .ok (.iconst 0, 1) := dk_3 (dk_at dksX4_append_2 5 rfl rfl)
theorem dX4_append_53 : decode cX4_append 53 = .ok (.goto 4, 3) := dk_167 0 4 (dk_at dksX4_append_2 6 rfl rfl)
theorem dX4_append_56 : decode cX4_append 56 = .ok (.iconst 1, 1) := dk_4 (dk_at dksX4_append_2 9 rfl rfl)
theorem dX4_append_57 : decode cX4_append 57 = .ok (.iadd, 1) := dk_96 (dk_at dksX4_append_2 10 rfl rfl)
theorem dX4_append_58 : decode cX4_append 58 = .ok (.istore_n 2, 1) := dk_61 (dk_at dksX4_append_2 11 rfl rfl)
theorem dX4_append_59 : decode cX4_append 59 = .ok (.iinc 3 (-8), 3) := dk_132 3 248 (dk_at dksX4_append_2 12 rfl rfl)
theorem dX4_append_62 : decode cX4_append 62 = .ok (.goto (-52), 3) := dk_167 255 204 (dk_at dksX4_append_2 15 rfl rfl)
theorem dX4_append_65 : decode cX4_append 65 = .ok (.aload_n 0, 1) := dk_42 (dk_at dksX4_append_2 18 rfl rfl)
theorem dX4_append_66 : decode cX4_append 66 = .ok (.getfield 228, 3) := dk_180 0 228 (dk_at dksX4_append_2 19 rfl rfl)
theorem dX4_append_69 : decode cX4_append 69 = .ok (.iload_n 2, 1) := dk_28 (dk_at dksX4_append_2 22 rfl rfl)
theorem dX4_append_70 : decode cX4_append 70 = .ok (.iadd, 1) := dk_96 (dk_at dksX4_append_2 23 rfl rfl)
theorem dX4_append_71 : decode cX4_append 71 = .ok (.bipush 60, 2) := dk_16 60 (dk_at dksX4_append_3 0 rfl rfl)
theorem dX4_append_73 : decode cX4_append 73 = .ok (.if_icmp .le 9, 3) := dk_164 0 9 (dk_at dksX4_append_3 2 rfl rfl)
theorem dX4_append_76 : decode cX4_append 76 = .ok (.aload_n 0, 1) := dk_42 (dk_at dksX4_append_3 5 rfl rfl)
theorem dX4_append_77 : decode cX4_append 77 = .ok (.iconst 2, 1) := dk_5 (dk_at dksX4_append_3 6 rfl rfl)
theorem dX4_append_78 : decode cX4_append 78 = .ok (.invokevirtual 101, 3) := dk_182 0 101 (dk_at dksX4_append_3 7 rfl rfl)
theorem dX4_append_81 : decode cX4_append 81 = .ok (.ireturn, 1) := dk_172 (dk_at dksX4_append_3 10 rfl rfl)
theorem dX4_append_82 : decode cX4_append 82 = .ok (.bipush 24, 2) := dk_16 24 (dk_at dksX4_append_3 11 rfl rfl)
theorem dX4_append_84 : decode cX4_append 84 = .ok (.istore_n 3, 1) := dk_62 (dk_at dksX4_append_3 13 rfl rfl)
theorem dX4_append_85 : decode cX4_append 85 = .ok (.iload_n 3, 1) := dk_29 (dk_at dksX4_append_3 14 rfl rfl)
theorem dX4_append_86 : decode cX4_append 86 = .ok (.ifCond .lt 47, 3) := dk_155 0 47 (dk_at dksX4_append_3 15 rfl rfl)
theorem dX4_append_89 : decode cX4_append 89 = .ok (.iload_n 1, 1) := dk_27 (dk_at dksX4_append_3 18 rfl rfl)
theorem dX4_append_90 : decode cX4_append 90 = .ok (.iload_n 3, 1) := dk_29 (dk_at dksX4_append_3 19 rfl rfl)
theorem dX4_append_91 : decode cX4_append 91 = .ok (.iushr, 1) := dk_124 (dk_at dksX4_append_3 20 rfl rfl)
theorem dX4_append_92 : decode cX4_append 92 = .ok (.sipush 255, 3) := dk_17 0 255 (dk_at dksX4_append_3 21 rfl rfl)
theorem dX4_append_95 : decode cX4_append 95 = .ok (.iand, 1) := dk_126 (dk_at dksX4_append_4 0 rfl rfl)
theorem dX4_append_96 : decode cX4_append 96 = .ok (.istore 4, 2) := dk_54 4 (dk_at dksX4_append_4 1 rfl rfl)
theorem dX4_append_98 : decode cX4_append 98 = .ok (.iload 4, 2) := dk_21 4 (dk_at dksX4_append_4 3 rfl rfl)
theorem dX4_append_100 : decode cX4_append 100 = .ok (.ifCond .ne 6, 3) := dk_154 0 6 (dk_at dksX4_append_4 5 rfl rfl)
theorem dX4_append_103 : decode cX4_append 103 = .ok (.goto 24, 3) := dk_167 0 24 (dk_at dksX4_append_4 8 rfl rfl)
theorem dX4_append_106 : decode cX4_append 106 = .ok (.aload_n 0, 1) := dk_42 (dk_at dksX4_append_4 11 rfl rfl)
theorem dX4_append_107 : decode cX4_append 107 = .ok (.getfield 26, 3) := dk_180 0 26 (dk_at dksX4_append_4 12 rfl rfl)
theorem dX4_append_110 : decode cX4_append 110 = .ok (.aload_n 0, 1) := dk_42 (dk_at dksX4_append_4 15 rfl rfl)
theorem dX4_append_111 : decode cX4_append 111 = .ok (.getfield 228, 3) := dk_180 0 228 (dk_at dksX4_append_4 16 rfl rfl)
theorem dX4_append_114 : decode cX4_append 114 = .ok (.iload 4, 2) := dk_21 4 (dk_at dksX4_append_4 19 rfl rfl)
theorem dX4_append_116 : decode cX4_append 116 = .ok (.iastore, 1) := dk_79 (dk_at dksX4_append_4 21 rfl rfl)
theorem dX4_append_117 : decode cX4_append 117 = .ok (.aload_n 0, 1) := dk_42 (dk_at dksX4_append_4 22 rfl rfl)
theorem dX4_append_118 : decode cX4_append 118 = .ok (.dup, 1) := dk_89 (dk_at dksX4_append_4 23 rfl rfl)
theorem dX4_append_119 : decode cX4_append 119 = .ok (.getfield 228, 3) := dk_180 0 228 (dk_at dksX4_append_5 0 rfl rfl)
theorem dX4_append_122 : decode cX4_append 122 = .ok (.iconst 1, 1) := dk_4 (dk_at dksX4_append_5 3 rfl rfl)
theorem dX4_append_123 : decode cX4_append 123 = .ok (.iadd, 1) := dk_96 (dk_at dksX4_append_5 4 rfl rfl)
theorem dX4_append_124 : decode cX4_append 124 = .ok (.putfield 228, 3) := dk_181 0 228 (dk_at dksX4_append_5 5 rfl rfl)
theorem dX4_append_127 : decode cX4_append 127 = .ok (.iinc 3 (-8), 3) := dk_132 3 248 (dk_at dksX4_append_5 8 rfl rfl)
theorem dX4_append_130 : decode cX4_append 130 = .ok (.goto (-45), 3) := dk_167 255 211 (dk_at dksX4_append_5 11 rfl rfl)
theorem dX4_append_133 : decode cX4_append 133 = .ok (.aload_n 0, 1) := dk_42 (dk_at dksX4_append_5 14 rfl rfl)
theorem dX4_append_134 : decode cX4_append 134 = .ok (.getfield 228, 3) := dk_180 0 228 (dk_at dksX4_append_5 15 rfl rfl)
theorem dX4_append_137 : decode cX4_append 137 = .ok (.ireturn, 1) := dk_172 (dk_at dksX4_append_5 18 rfl rfl)
abbrev cX4_read : ByteArray := prog_14_method_97_code
def yX4_read : MethodName := ⟨RX4, "read", "()I"⟩
def dkwX4_read_7 : List UInt8 := [42, 5, 182, 0, 101, 172, 132, 1, 1, 167, 255, 187, 42, 42, 180, 1, 74, 182, 0, 97, 172]
abbrev dktX4_read_7 : List UInt8 := dkwX4_read_7 ++ []
def dkwX4_read_6 : List UInt8 := [180, 0, 13, 29, 46, 79, 132, 3, 1, 167, 255, 234, 42, 27, 181, 0, 78, 42, 28, 5, 182, 0, 244, 62]
abbrev dktX4_read_6 : List UInt8 := dkwX4_read_6 ++ dktX4_read_7
def dkwX4_read_5 : List UInt8 := [61, 28, 154, 0, 6, 167, 0, 48, 3, 62, 29, 17, 53, 107, 162, 0, 21, 42, 180, 0, 7, 29, 42]
abbrev dktX4_read_5 : List UInt8 := dkwX4_read_5 ++ dktX4_read_6
def dkwX4_read_4 : List UInt8 := [181, 0, 74, 42, 4, 182, 0, 101, 172, 3, 60, 27, 42, 180, 1, 74, 162, 0, 67, 42, 27, 182, 1, 83]
abbrev dktX4_read_4 : List UInt8 := dkwX4_read_4 ++ dktX4_read_5
def dkwX4_read_3 : List UInt8 := [180, 0, 234, 154, 0, 14, 42, 180, 0, 225, 42, 180, 0, 231, 162, 0, 17, 42, 42, 180, 0, 225]
abbrev dktX4_read_3 : List UInt8 := dkwX4_read_3 ++ dktX4_read_4
def dkwX4_read_2 : List UInt8 := [16, 59, 160, 0, 20, 42, 89, 180, 0, 225, 4, 96, 181, 0, 225, 42, 182, 1, 80, 167, 255, 226, 42]
abbrev dktX4_read_2 : List UInt8 := dkwX4_read_2 ++ dktX4_read_3
def dkwX4_read_1 : List UInt8 := [181, 1, 74, 42, 3, 181, 0, 234, 42, 182, 1, 80, 42, 180, 0, 234, 154, 0, 29, 42, 182, 1, 51]
abbrev dktX4_read_1 : List UInt8 := dkwX4_read_1 ++ dktX4_read_2
def dkwX4_read_0 : List UInt8 := [42, 182, 0, 222, 42, 3, 181, 0, 225, 42, 42, 180, 0, 228, 181, 0, 231, 42, 3, 181, 0, 228, 42, 3]
abbrev dktX4_read_0 : List UInt8 := dkwX4_read_0 ++ dktX4_read_1
theorem dksX4_read_0 : cX4_read.data.toList.drop 0 = dktX4_read_0 := by decide +kernel
theorem dksX4_read_1 : cX4_read.data.toList.drop 24 = dktX4_read_1 := dk_seg dksX4_read_0 24 rfl rfl
theorem dksX4_read_2 : cX4_read.data.toList.drop 47 = dktX4_read_2 := dk_seg dksX4_read_1 23 rfl rfl
theorem dksX4_read_3 : cX4_read.data.toList.drop 70 = dktX4_read_3 := dk_seg dksX4_read_2 23 rfl rfl
theorem dksX4_read_4 : cX4_read.data.toList.drop 92 = dktX4_read_4 := dk_seg dksX4_read_3 22 rfl rfl
theorem dksX4_read_5 : cX4_read.data.toList.drop 116 = dktX4_read_5 := dk_seg dksX4_read_4 24 rfl rfl
theorem dksX4_read_6 : cX4_read.data.toList.drop 139 = dktX4_read_6 := dk_seg dksX4_read_5 23 rfl rfl
theorem dksX4_read_7 : cX4_read.data.toList.drop 163 = dktX4_read_7 := dk_seg dksX4_read_6 24 rfl rfl
theorem dX4_read_0 : decode cX4_read 0 = .ok (.aload_n 0, 1) := dk_42 (dk_at dksX4_read_0 0 rfl rfl)
theorem dX4_read_1 : decode cX4_read 1 = .ok (.invokevirtual 222, 3) := dk_182 0 222 (dk_at dksX4_read_0 1 rfl rfl)
theorem dX4_read_4 : decode cX4_read 4 = .ok (.aload_n 0, 1) := dk_42 (dk_at dksX4_read_0 4 rfl rfl)
theorem dX4_read_5 : decode cX4_read 5 = .ok (.iconst 0, 1) := dk_3 (dk_at dksX4_read_0 5 rfl rfl)
theorem dX4_read_6 : decode cX4_read 6 = .ok (.putfield 225, 3) := dk_181 0 225 (dk_at dksX4_read_0 6 rfl rfl)
theorem dX4_read_9 : decode cX4_read 9 = .ok (.aload_n 0, 1) := dk_42 (dk_at dksX4_read_0 9 rfl rfl)
theorem dX4_read_10 : decode cX4_read 10 = .ok (.aload_n 0, 1) := dk_42 (dk_at dksX4_read_0 10 rfl rfl)
theorem dX4_read_11 : decode cX4_read 11 = .ok (.getfield 228, 3) := dk_180 0 228 (dk_at dksX4_read_0 11 rfl rfl)
theorem dX4_read_14 : decode cX4_read 14 = .ok (.putfield 231, 3) := dk_181 0 231 (dk_at dksX4_read_0 14 rfl rfl)
theorem dX4_read_17 : decode cX4_read 17 = .ok (.aload_n 0, 1) := dk_42 (dk_at dksX4_read_0 17 rfl rfl)
theorem dX4_read_18 : decode cX4_read 18 = .ok (.iconst 0, 1) := dk_3 (dk_at dksX4_read_0 18 rfl rfl)
theorem dX4_read_19 : decode cX4_read 19 = .ok (.putfield 228, 3) := dk_181 0 228 (dk_at dksX4_read_0 19 rfl rfl)
theorem dX4_read_22 : decode cX4_read 22 = .ok (.aload_n 0, 1) := dk_42 (dk_at dksX4_read_0 22 rfl rfl)
theorem dX4_read_23 : decode cX4_read 23 = .ok (.iconst 0, 1) := dk_3 (dk_at dksX4_read_0 23 rfl rfl)
theorem dX4_read_24 : decode cX4_read 24 = .ok (.putfield 330, 3) := dk_181 1 74 (dk_at dksX4_read_1 0 rfl rfl)
theorem dX4_read_27 : decode cX4_read 27 = .ok (.aload_n 0, 1) := dk_42 (dk_at dksX4_read_1 3 rfl rfl)
theorem dX4_read_28 : decode cX4_read 28 = .ok (.iconst 0, 1) := dk_3 (dk_at dksX4_read_1 4 rfl rfl)
theorem dX4_read_29 : decode cX4_read 29 = .ok (.putfield 234, 3) := dk_181 0 234 (dk_at dksX4_read_1 5 rfl rfl)
theorem dX4_read_32 : decode cX4_read 32 = .ok (.aload_n 0, 1) := dk_42 (dk_at dksX4_read_1 8 rfl rfl)
theorem dX4_read_33 : decode cX4_read 33 = .ok (.invokevirtual 336, 3) := dk_182 1 80 (dk_at dksX4_read_1 9 rfl rfl)
theorem dX4_read_36 : decode cX4_read 36 = .ok (.aload_n 0, 1) := dk_42 (dk_at dksX4_read_1 12 rfl rfl)
theorem dX4_read_37 : decode cX4_read 37 = .ok (.getfield 234, 3) := dk_180 0 234 (dk_at dksX4_read_1 13 rfl rfl)
theorem dX4_read_40 : decode cX4_read 40 = .ok (.ifCond .ne 29, 3) := dk_154 0 29 (dk_at dksX4_read_1 16 rfl rfl)
theorem dX4_read_43 : decode cX4_read 43 = .ok (.aload_n 0, 1) := dk_42 (dk_at dksX4_read_1 19 rfl rfl)
theorem dX4_read_44 : decode cX4_read 44 = .ok (.invokevirtual 307, 3) := dk_182 1 51 (dk_at dksX4_read_1 20 rfl rfl)
theorem dX4_read_47 : decode cX4_read 47 = .ok (.bipush 59, 2) := dk_16 59 (dk_at dksX4_read_2 0 rfl rfl)
theorem dX4_read_49 : decode cX4_read 49 = .ok (.if_icmp .ne 20, 3) := dk_160 0 20 (dk_at dksX4_read_2 2 rfl rfl)
theorem dX4_read_52 : decode cX4_read 52 = .ok (.aload_n 0, 1) := dk_42 (dk_at dksX4_read_2 5 rfl rfl)
theorem dX4_read_53 : decode cX4_read 53 = .ok (.dup, 1) := dk_89 (dk_at dksX4_read_2 6 rfl rfl)
theorem dX4_read_54 : decode cX4_read 54 = .ok (.getfield 225, 3) := dk_180 0 225 (dk_at dksX4_read_2 7 rfl rfl)
theorem dX4_read_57 : decode cX4_read 57 = .ok (.iconst 1, 1) := dk_4 (dk_at dksX4_read_2 10 rfl rfl)
theorem dX4_read_58 : decode cX4_read 58 = .ok (.iadd, 1) := dk_96 (dk_at dksX4_read_2 11 rfl rfl)
theorem dX4_read_59 : decode cX4_read 59 = .ok (.putfield 225, 3) := dk_181 0 225 (dk_at dksX4_read_2 12 rfl rfl)
theorem dX4_read_62 : decode cX4_read 62 = .ok (.aload_n 0, 1) := dk_42 (dk_at dksX4_read_2 15 rfl rfl)
theorem dX4_read_63 : decode cX4_read 63 = .ok (.invokevirtual 336, 3) := dk_182 1 80 (dk_at dksX4_read_2 16 rfl rfl)
theorem dX4_read_66 : decode cX4_read 66 = .ok (.goto (-30), 3) := dk_167 255 226 (dk_at dksX4_read_2 19 rfl rfl)
theorem dX4_read_69 : decode cX4_read 69 = .ok (.aload_n 0, 1) := dk_42 (dk_at dksX4_read_2 22 rfl rfl)
theorem dX4_read_70 : decode cX4_read 70 = .ok (.getfield 234, 3) := dk_180 0 234 (dk_at dksX4_read_3 0 rfl rfl)
theorem dX4_read_73 : decode cX4_read 73 = .ok (.ifCond .ne 14, 3) := dk_154 0 14 (dk_at dksX4_read_3 3 rfl rfl)
theorem dX4_read_76 : decode cX4_read 76 = .ok (.aload_n 0, 1) := dk_42 (dk_at dksX4_read_3 6 rfl rfl)
theorem dX4_read_77 : decode cX4_read 77 = .ok (.getfield 225, 3) := dk_180 0 225 (dk_at dksX4_read_3 7 rfl rfl)
theorem dX4_read_80 : decode cX4_read 80 = .ok (.aload_n 0, 1) := dk_42 (dk_at dksX4_read_3 10 rfl rfl)
theorem dX4_read_81 : decode cX4_read 81 = .ok (.getfield 231, 3) := dk_180 0 231 (dk_at dksX4_read_3 11 rfl rfl)
theorem dX4_read_84 : decode cX4_read 84 = .ok (.if_icmp .ge 17, 3) := dk_162 0 17 (dk_at dksX4_read_3 14 rfl rfl)
theorem dX4_read_87 : decode cX4_read 87 = .ok (.aload_n 0, 1) := dk_42 (dk_at dksX4_read_3 17 rfl rfl)
theorem dX4_read_88 : decode cX4_read 88 = .ok (.aload_n 0, 1) := dk_42 (dk_at dksX4_read_3 18 rfl rfl)
theorem dX4_read_89 : decode cX4_read 89 = .ok (.getfield 225, 3) := dk_180 0 225 (dk_at dksX4_read_3 19 rfl rfl)
theorem dX4_read_92 : decode cX4_read 92 = .ok (.putfield 74, 3) := dk_181 0 74 (dk_at dksX4_read_4 0 rfl rfl)
theorem dX4_read_95 : decode cX4_read 95 = .ok (.aload_n 0, 1) := dk_42 (dk_at dksX4_read_4 3 rfl rfl)
theorem dX4_read_96 : decode cX4_read 96 = .ok (.iconst 1, 1) := dk_4 (dk_at dksX4_read_4 4 rfl rfl)
theorem dX4_read_97 : decode cX4_read 97 = .ok (.invokevirtual 101, 3) := dk_182 0 101 (dk_at dksX4_read_4 5 rfl rfl)
theorem dX4_read_100 : decode cX4_read 100 = .ok (.ireturn, 1) := dk_172 (dk_at dksX4_read_4 8 rfl rfl)
theorem dX4_read_101 : decode cX4_read 101 = .ok (.iconst 0, 1) := dk_3 (dk_at dksX4_read_4 9 rfl rfl)
theorem dX4_read_102 : decode cX4_read 102 = .ok (.istore_n 1, 1) := dk_60 (dk_at dksX4_read_4 10 rfl rfl)
theorem dX4_read_103 : decode cX4_read 103 = .ok (.iload_n 1, 1) := dk_27 (dk_at dksX4_read_4 11 rfl rfl)
theorem dX4_read_104 : decode cX4_read 104 = .ok (.aload_n 0, 1) := dk_42 (dk_at dksX4_read_4 12 rfl rfl)
theorem dX4_read_105 : decode cX4_read 105 = .ok (.getfield 330, 3) := dk_180 1 74 (dk_at dksX4_read_4 13 rfl rfl)
theorem dX4_read_108 : decode cX4_read 108 = .ok (.if_icmp .ge 67, 3) := dk_162 0 67 (dk_at dksX4_read_4 16 rfl rfl)
theorem dX4_read_111 : decode cX4_read 111 = .ok (.aload_n 0, 1) := dk_42 (dk_at dksX4_read_4 19 rfl rfl)
theorem dX4_read_112 : decode cX4_read 112 = .ok (.iload_n 1, 1) := dk_27 (dk_at dksX4_read_4 20 rfl rfl)
theorem dX4_read_113 : decode cX4_read 113 = .ok (.invokevirtual 339, 3) := dk_182 1 83 (dk_at dksX4_read_4 21 rfl rfl)
theorem dX4_read_116 : decode cX4_read 116 = .ok (.istore_n 2, 1) := dk_61 (dk_at dksX4_read_5 0 rfl rfl)
theorem dX4_read_117 : decode cX4_read 117 = .ok (.iload_n 2, 1) := dk_28 (dk_at dksX4_read_5 1 rfl rfl)
theorem dX4_read_118 : decode cX4_read 118 = .ok (.ifCond .ne 6, 3) := dk_154 0 6 (dk_at dksX4_read_5 2 rfl rfl)
theorem dX4_read_121 : decode cX4_read 121 = .ok (.goto 48, 3) := dk_167 0 48 (dk_at dksX4_read_5 5 rfl rfl)
theorem dX4_read_124 : decode cX4_read 124 = .ok (.iconst 0, 1) := dk_3 (dk_at dksX4_read_5 8 rfl rfl)
theorem dX4_read_125 : decode cX4_read 125 = .ok (.istore_n 3, 1) := dk_62 (dk_at dksX4_read_5 9 rfl rfl)
theorem dX4_read_126 : decode cX4_read 126 = .ok (.iload_n 3, 1) := dk_29 (dk_at dksX4_read_5 10 rfl rfl)
theorem dX4_read_127 : decode cX4_read 127 = .ok (.sipush 13675, 3) := dk_17 53 107 (dk_at dksX4_read_5 11 rfl rfl)
theorem dX4_read_130 : decode cX4_read 130 = .ok (.if_icmp .ge 21, 3) := dk_162 0 21 (dk_at dksX4_read_5 14 rfl rfl)
theorem dX4_read_133 : decode cX4_read 133 = .ok (.aload_n 0, 1) := dk_42 (dk_at dksX4_read_5 17 rfl rfl)
theorem dX4_read_134 : decode cX4_read 134 = .ok (.getfield 7, 3) := dk_180 0 7 (dk_at dksX4_read_5 18 rfl rfl)
theorem dX4_read_137 : decode cX4_read 137 = .ok (.iload_n 3, 1) := dk_29 (dk_at dksX4_read_5 21 rfl rfl)
theorem dX4_read_138 : decode cX4_read 138 = .ok (.aload_n 0, 1) := dk_42 (dk_at dksX4_read_5 22 rfl rfl)
theorem dX4_read_139 : decode cX4_read 139 = .ok (.getfield 13, 3) := dk_180 0 13 (dk_at dksX4_read_6 0 rfl rfl)
theorem dX4_read_142 : decode cX4_read 142 = .ok (.iload_n 3, 1) := dk_29 (dk_at dksX4_read_6 3 rfl rfl)
theorem dX4_read_143 : decode cX4_read 143 = .ok (.iaload, 1) := dk_46 (dk_at dksX4_read_6 4 rfl rfl)
theorem dX4_read_144 : decode cX4_read 144 = .ok (.iastore, 1) := dk_79 (dk_at dksX4_read_6 5 rfl rfl)
theorem dX4_read_145 : decode cX4_read 145 = .ok (.iinc 3 1, 3) := dk_132 3 1 (dk_at dksX4_read_6 6 rfl rfl)
theorem dX4_read_148 : decode cX4_read 148 = .ok (.goto (-22), 3) := dk_167 255 234 (dk_at dksX4_read_6 9 rfl rfl)
theorem dX4_read_151 : decode cX4_read 151 = .ok (.aload_n 0, 1) := dk_42 (dk_at dksX4_read_6 12 rfl rfl)
theorem dX4_read_152 : decode cX4_read 152 = .ok (.iload_n 1, 1) := dk_27 (dk_at dksX4_read_6 13 rfl rfl)
theorem dX4_read_153 : decode cX4_read 153 = .ok (.putfield 78, 3) := dk_181 0 78 (dk_at dksX4_read_6 14 rfl rfl)
theorem dX4_read_156 : decode cX4_read 156 = .ok (.aload_n 0, 1) := dk_42 (dk_at dksX4_read_6 17 rfl rfl)
theorem dX4_read_157 : decode cX4_read 157 = .ok (.iload_n 2, 1) := dk_28 (dk_at dksX4_read_6 18 rfl rfl)
theorem dX4_read_158 : decode cX4_read 158 = .ok (.iconst 2, 1) := dk_5 (dk_at dksX4_read_6 19 rfl rfl)
theorem dX4_read_159 : decode cX4_read 159 = .ok (.invokevirtual 244, 3) := dk_182 0 244 (dk_at dksX4_read_6 20 rfl rfl)
theorem dX4_read_162 : decode cX4_read 162 = .ok (.istore_n 3, 1) := dk_62 (dk_at dksX4_read_6 23 rfl rfl)
theorem dX4_read_163 : decode cX4_read 163 = .ok (.aload_n 0, 1) := dk_42 (dk_at dksX4_read_7 0 rfl rfl)
theorem dX4_read_164 : decode cX4_read 164 = .ok (.iconst 2, 1) := dk_5 (dk_at dksX4_read_7 1 rfl rfl)
theorem dX4_read_165 : decode cX4_read 165 = .ok (.invokevirtual 101, 3) := dk_182 0 101 (dk_at dksX4_read_7 2 rfl rfl)
theorem dX4_read_168 : decode cX4_read 168 = .ok (.ireturn, 1) := dk_172 (dk_at dksX4_read_7 5 rfl rfl)
theorem dX4_read_169 : decode cX4_read 169 = .ok (.iinc 1 1, 3) := dk_132 1 1 (dk_at dksX4_read_7 6 rfl rfl)
theorem dX4_read_172 : decode cX4_read 172 = .ok (.goto (-69), 3) := dk_167 255 187 (dk_at dksX4_read_7 9 rfl rfl)
theorem dX4_read_175 : decode cX4_read 175 = .ok (.aload_n 0, 1) := dk_42 (dk_at dksX4_read_7 12 rfl rfl)
theorem dX4_read_176 : decode cX4_read 176 = .ok (.aload_n 0, 1) := dk_42 (dk_at dksX4_read_7 13 rfl rfl)
theorem dX4_read_177 : decode cX4_read 177 = .ok (.getfield 330, 3) := dk_180 1 74 (dk_at dksX4_read_7 14 rfl rfl)
theorem dX4_read_180 : decode cX4_read 180 = .ok (.invokevirtual 97, 3) := dk_182 0 97 (dk_at dksX4_read_7 17 rfl rfl)
theorem dX4_read_183 : decode cX4_read 183 = .ok (.ireturn, 1) := dk_172 (dk_at dksX4_read_7 20 rfl rfl)
abbrev cX4_readsOne : ByteArray := prog_14_method_94_code
def yX4_readsOne : MethodName := ⟨RX4, "readsOne", "()V"⟩
def dkwX4_readsOne_10 : List UInt8 := [180, 1, 74, 4, 96, 181, 1, 74, 177]
abbrev dktX4_readsOne_10 : List UInt8 := dkwX4_readsOne_10 ++ []
def dkwX4_readsOne_9 : List UInt8 := [181, 0, 234, 42, 89, 180, 0, 225, 27, 2, 160, 0, 7, 3, 167, 0, 4, 4, 100, 181, 0, 225, 42, 89]
abbrev dktX4_readsOne_9 : List UInt8 := dkwX4_readsOne_9 ++ dktX4_readsOne_10
def dkwX4_readsOne_8 : List UInt8 := [7, 42, 180, 1, 74, 104, 4, 96, 42, 180, 0, 225, 79, 42, 182, 0, 238, 167, 0, 27, 42, 4]
abbrev dktX4_readsOne_8 : List UInt8 := dkwX4_readsOne_8 ++ dktX4_readsOne_9
def dkwX4_readsOne_7 : List UInt8 := [180, 0, 29, 7, 42, 180, 1, 74, 104, 4, 96, 42, 4, 182, 1, 71, 79, 167, 0, 51, 42, 180, 0, 29]
abbrev dktX4_readsOne_7 : List UInt8 := dkwX4_readsOne_7 ++ dktX4_readsOne_8
def dkwX4_readsOne_6 : List UInt8 := [42, 180, 0, 29, 7, 42, 180, 1, 74, 104, 4, 96, 42, 6, 182, 1, 71, 79, 167, 0, 72, 42]
abbrev dktX4_readsOne_6 : List UInt8 := dkwX4_readsOne_6 ++ dktX4_readsOne_7
def dkwX4_readsOne_5 : List UInt8 := [182, 1, 68, 42, 180, 0, 29, 7, 42, 180, 1, 74, 104, 6, 96, 42, 6, 182, 1, 71, 79, 167, 0, 93]
abbrev dktX4_readsOne_5 : List UInt8 := dkwX4_readsOne_5 ++ dktX4_readsOne_6
def dkwX4_readsOne_4 : List UInt8 := [180, 1, 74, 104, 5, 96, 16, 10, 42, 4, 182, 1, 71, 104, 42, 4, 182, 1, 71, 96, 79, 42, 16, 42]
abbrev dktX4_readsOne_4 : List UInt8 := dkwX4_readsOne_4 ++ dktX4_readsOne_5
def dkwX4_readsOne_3 : List UInt8 := [42, 180, 0, 29, 7, 42, 180, 1, 74, 104, 4, 96, 42, 182, 1, 57, 79, 42, 180, 0, 29, 7, 42]
abbrev dktX4_readsOne_3 : List UInt8 := dkwX4_readsOne_3 ++ dktX4_readsOne_4
def dkwX4_readsOne_2 : List UInt8 := [171, 0, 0, 0, 0, 0, 188, 0, 0, 0, 5, 0, 0, 0, 43, 0, 0, 0, 51, 0, 0, 0, 45, 0, 0, 0, 122, 0, 0, 0, 58, 0, 0, 0, 164, 0, 0, 0, 102, 0, 0, 0, 122, 0, 0, 0, 120, 0, 0, 0, 143]
abbrev dktX4_readsOne_2 : List UInt8 := dkwX4_readsOne_2 ++ dktX4_readsOne_3
def dkwX4_readsOne_1 : List UInt8 := [160, 0, 7, 3, 167, 0, 4, 4, 96, 181, 0, 225, 27]
abbrev dktX4_readsOne_1 : List UInt8 := dkwX4_readsOne_1 ++ dktX4_readsOne_2
def dkwX4_readsOne_0 : List UInt8 := [42, 182, 1, 51, 60, 42, 180, 0, 29, 7, 42, 180, 1, 74, 104, 27, 79, 42, 89, 180, 0, 225, 27, 2]
abbrev dktX4_readsOne_0 : List UInt8 := dkwX4_readsOne_0 ++ dktX4_readsOne_1
theorem dksX4_readsOne_0 : cX4_readsOne.data.toList.drop 0 = dktX4_readsOne_0 := by decide +kernel
theorem dksX4_readsOne_1 : cX4_readsOne.data.toList.drop 24 = dktX4_readsOne_1 := dk_seg dksX4_readsOne_0 24 rfl rfl
theorem dksX4_readsOne_2 : cX4_readsOne.data.toList.drop 37 = dktX4_readsOne_2 := dk_seg dksX4_readsOne_1 13 rfl rfl
theorem dksX4_readsOne_3 : cX4_readsOne.data.toList.drop 88 = dktX4_readsOne_3 := dk_seg dksX4_readsOne_2 51 rfl rfl
theorem dksX4_readsOne_4 : cX4_readsOne.data.toList.drop 111 = dktX4_readsOne_4 := dk_seg dksX4_readsOne_3 23 rfl rfl
theorem dksX4_readsOne_5 : cX4_readsOne.data.toList.drop 135 = dktX4_readsOne_5 := dk_seg dksX4_readsOne_4 24 rfl rfl
theorem dksX4_readsOne_6 : cX4_readsOne.data.toList.drop 159 = dktX4_readsOne_6 := dk_seg dksX4_readsOne_5 24 rfl rfl
theorem dksX4_readsOne_7 : cX4_readsOne.data.toList.drop 181 = dktX4_readsOne_7 := dk_seg dksX4_readsOne_6 22 rfl rfl
theorem dksX4_readsOne_8 : cX4_readsOne.data.toList.drop 205 = dktX4_readsOne_8 := dk_seg dksX4_readsOne_7 24 rfl rfl
theorem dksX4_readsOne_9 : cX4_readsOne.data.toList.drop 227 = dktX4_readsOne_9 := dk_seg dksX4_readsOne_8 22 rfl rfl
theorem dksX4_readsOne_10 : cX4_readsOne.data.toList.drop 251 = dktX4_readsOne_10 := dk_seg dksX4_readsOne_9 24 rfl rfl
theorem dX4_readsOne_0 : decode cX4_readsOne 0 = .ok (.aload_n 0, 1) := dk_42 (dk_at dksX4_readsOne_0 0 rfl rfl)
theorem dX4_readsOne_1 : decode cX4_readsOne 1 = .ok (.invokevirtual 307, 3) := dk_182 1 51 (dk_at dksX4_readsOne_0 1 rfl rfl)
theorem dX4_readsOne_4 : decode cX4_readsOne 4 = .ok (.istore_n 1, 1) := dk_60 (dk_at dksX4_readsOne_0 4 rfl rfl)
theorem dX4_readsOne_5 : decode cX4_readsOne 5 = .ok (.aload_n 0, 1) := dk_42 (dk_at dksX4_readsOne_0 5 rfl rfl)
theorem dX4_readsOne_6 : decode cX4_readsOne 6 = .ok (.getfield 29, 3) := dk_180 0 29 (dk_at dksX4_readsOne_0 6 rfl rfl)
theorem dX4_readsOne_9 : decode cX4_readsOne 9 = .ok (.iconst 4, 1) := dk_7 (dk_at dksX4_readsOne_0 9 rfl rfl)
theorem dX4_readsOne_10 : decode cX4_readsOne 10 = .ok (.aload_n 0, 1) := dk_42 (dk_at dksX4_readsOne_0 10 rfl rfl)
theorem dX4_readsOne_11 : decode cX4_readsOne 11 = .ok (.getfield 330, 3) := dk_180 1 74 (dk_at dksX4_readsOne_0 11 rfl rfl)
theorem dX4_readsOne_14 : decode cX4_readsOne 14 = .ok (.imul, 1) := dk_104 (dk_at dksX4_readsOne_0 14 rfl rfl)
theorem dX4_readsOne_15 : decode cX4_readsOne 15 = .ok (.iload_n 1, 1) := dk_27 (dk_at dksX4_readsOne_0 15 rfl rfl)
theorem dX4_readsOne_16 : decode cX4_readsOne 16 = .ok (.iastore, 1) := dk_79 (dk_at dksX4_readsOne_0 16 rfl rfl)
theorem dX4_readsOne_17 : decode cX4_readsOne 17 = .ok (.aload_n 0, 1) := dk_42 (dk_at dksX4_readsOne_0 17 rfl rfl)
theorem dX4_readsOne_18 : decode cX4_readsOne 18 = .ok (.dup, 1) := dk_89 (dk_at dksX4_readsOne_0 18 rfl rfl)
theorem dX4_readsOne_19 : decode cX4_readsOne 19 = .ok (.getfield 225, 3) := dk_180 0 225 (dk_at dksX4_readsOne_0 19 rfl rfl)
theorem dX4_readsOne_22 : decode cX4_readsOne 22 = .ok (.iload_n 1, 1) := dk_27 (dk_at dksX4_readsOne_0 22 rfl rfl)
theorem dX4_readsOne_23 : decode cX4_readsOne 23 = .ok (.iconst (-1), 1) := dk_2 (dk_at dksX4_readsOne_0 23 rfl rfl)
theorem dX4_readsOne_24 : decode cX4_readsOne 24 = .ok (.if_icmp .ne 7, 3) := dk_160 0 7 (dk_at dksX4_readsOne_1 0 rfl rfl)
theorem dX4_readsOne_27 : decode cX4_readsOne 27 = .ok (.iconst 0, 1) := dk_3 (dk_at dksX4_readsOne_1 3 rfl rfl)
theorem dX4_readsOne_28 : decode cX4_readsOne 28 = .ok (.goto 4, 3) := dk_167 0 4 (dk_at dksX4_readsOne_1 4 rfl rfl)
theorem dX4_readsOne_31 : decode cX4_readsOne 31 = .ok (.iconst 1, 1) := dk_4 (dk_at dksX4_readsOne_1 7 rfl rfl)
theorem dX4_readsOne_32 : decode cX4_readsOne 32 = .ok (.iadd, 1) := dk_96 (dk_at dksX4_readsOne_1 8 rfl rfl)
theorem dX4_readsOne_33 : decode cX4_readsOne 33 = .ok (.putfield 225, 3) := dk_181 0 225 (dk_at dksX4_readsOne_1 9 rfl rfl)
theorem dX4_readsOne_36 : decode cX4_readsOne 36 = .ok (.iload_n 1, 1) := dk_27 (dk_at dksX4_readsOne_1 12 rfl rfl)
theorem dX4_readsOne_37 : decode cX4_readsOne 37 = .ok (.lookupswitch 188 #[(43, 51), (45, 122), (58, 164), (102, 122), (120, 143)], 51) := by decide +kernel
theorem dX4_readsOne_88 : decode cX4_readsOne 88 = .ok (.aload_n 0, 1) := dk_42 (dk_at dksX4_readsOne_3 0 rfl rfl)
theorem dX4_readsOne_89 : decode cX4_readsOne 89 = .ok (.getfield 29, 3) := dk_180 0 29 (dk_at dksX4_readsOne_3 1 rfl rfl)
theorem dX4_readsOne_92 : decode cX4_readsOne 92 = .ok (.iconst 4, 1) := dk_7 (dk_at dksX4_readsOne_3 4 rfl rfl)
theorem dX4_readsOne_93 : decode cX4_readsOne 93 = .ok (.aload_n 0, 1) := dk_42 (dk_at dksX4_readsOne_3 5 rfl rfl)
theorem dX4_readsOne_94 : decode cX4_readsOne 94 = .ok (.getfield 330, 3) := dk_180 1 74 (dk_at dksX4_readsOne_3 6 rfl rfl)
theorem dX4_readsOne_97 : decode cX4_readsOne 97 = .ok (.imul, 1) := dk_104 (dk_at dksX4_readsOne_3 9 rfl rfl)
theorem dX4_readsOne_98 : decode cX4_readsOne 98 = .ok (.iconst 1, 1) := dk_4 (dk_at dksX4_readsOne_3 10 rfl rfl)
theorem dX4_readsOne_99 : decode cX4_readsOne 99 = .ok (.iadd, 1) := dk_96 (dk_at dksX4_readsOne_3 11 rfl rfl)
theorem dX4_readsOne_100 : decode cX4_readsOne 100 = .ok (.aload_n 0, 1) := dk_42 (dk_at dksX4_readsOne_3 12 rfl rfl)
theorem dX4_readsOne_101 : decode cX4_readsOne 101 = .ok (.invokevirtual 313, 3) := dk_182 1 57 (dk_at dksX4_readsOne_3 13 rfl rfl)
theorem dX4_readsOne_104 : decode cX4_readsOne 104 = .ok (.iastore, 1) := dk_79 (dk_at dksX4_readsOne_3 16 rfl rfl)
theorem dX4_readsOne_105 : decode cX4_readsOne 105 = .ok (.aload_n 0, 1) := dk_42 (dk_at dksX4_readsOne_3 17 rfl rfl)
theorem dX4_readsOne_106 : decode cX4_readsOne 106 = .ok (.getfield 29, 3) := dk_180 0 29 (dk_at dksX4_readsOne_3 18 rfl rfl)
theorem dX4_readsOne_109 : decode cX4_readsOne 109 = .ok (.iconst 4, 1) := dk_7 (dk_at dksX4_readsOne_3 21 rfl rfl)
theorem dX4_readsOne_110 : decode cX4_readsOne 110 = .ok (.aload_n 0, 1) := dk_42 (dk_at dksX4_readsOne_3 22 rfl rfl)
theorem dX4_readsOne_111 : decode cX4_readsOne 111 = .ok (.getfield 330, 3) := dk_180 1 74 (dk_at dksX4_readsOne_4 0 rfl rfl)
theorem dX4_readsOne_114 : decode cX4_readsOne 114 = .ok (.imul, 1) := dk_104 (dk_at dksX4_readsOne_4 3 rfl rfl)
theorem dX4_readsOne_115 : decode cX4_readsOne 115 = .ok (.iconst 2, 1) := dk_5 (dk_at dksX4_readsOne_4 4 rfl rfl)
theorem dX4_readsOne_116 : decode cX4_readsOne 116 = .ok (.iadd, 1) := dk_96 (dk_at dksX4_readsOne_4 5 rfl rfl)
theorem dX4_readsOne_117 : decode cX4_readsOne 117 = .ok (.bipush 10, 2) := dk_16 10 (dk_at dksX4_readsOne_4 6 rfl rfl)
theorem dX4_readsOne_119 : decode cX4_readsOne 119 = .ok (.aload_n 0, 1) := dk_42 (dk_at dksX4_readsOne_4 8 rfl rfl)
theorem dX4_readsOne_120 : decode cX4_readsOne 120 = .ok (.iconst 1, 1) := dk_4 (dk_at dksX4_readsOne_4 9 rfl rfl)
theorem dX4_readsOne_121 : decode cX4_readsOne 121 = .ok (.invokevirtual 327, 3) := dk_182 1 71 (dk_at dksX4_readsOne_4 10 rfl rfl)
theorem dX4_readsOne_124 : decode cX4_readsOne 124 = .ok (.imul, 1) := dk_104 (dk_at dksX4_readsOne_4 13 rfl rfl)
theorem dX4_readsOne_125 : decode cX4_readsOne 125 = .ok (.aload_n 0, 1) := dk_42 (dk_at dksX4_readsOne_4 14 rfl rfl)
theorem dX4_readsOne_126 : decode cX4_readsOne 126 = .ok (.iconst 1, 1) := dk_4 (dk_at dksX4_readsOne_4 15 rfl rfl)
theorem dX4_readsOne_127 : decode cX4_readsOne 127 = .ok (.invokevirtual 327, 3) := dk_182 1 71 (dk_at dksX4_readsOne_4 16 rfl rfl)
theorem dX4_readsOne_130 : decode cX4_readsOne 130 = .ok (.iadd, 1) := dk_96 (dk_at dksX4_readsOne_4 19 rfl rfl)
theorem dX4_readsOne_131 : decode cX4_readsOne 131 = .ok (.iastore, 1) := dk_79 (dk_at dksX4_readsOne_4 20 rfl rfl)
theorem dX4_readsOne_132 : decode cX4_readsOne 132 = .ok (.aload_n 0, 1) := dk_42 (dk_at dksX4_readsOne_4 21 rfl rfl)
theorem dX4_readsOne_133 : decode cX4_readsOne 133 = .ok (.bipush 42, 2) := dk_16 42 (dk_at dksX4_readsOne_4 22 rfl rfl)
theorem dX4_readsOne_135 : decode cX4_readsOne 135 = .ok (.invokevirtual 324, 3) := dk_182 1 68 (dk_at dksX4_readsOne_5 0 rfl rfl)
theorem dX4_readsOne_138 : decode cX4_readsOne 138 = .ok (.aload_n 0, 1) := dk_42 (dk_at dksX4_readsOne_5 3 rfl rfl)
theorem dX4_readsOne_139 : decode cX4_readsOne 139 = .ok (.getfield 29, 3) := dk_180 0 29 (dk_at dksX4_readsOne_5 4 rfl rfl)
theorem dX4_readsOne_142 : decode cX4_readsOne 142 = .ok (.iconst 4, 1) := dk_7 (dk_at dksX4_readsOne_5 7 rfl rfl)
theorem dX4_readsOne_143 : decode cX4_readsOne 143 = .ok (.aload_n 0, 1) := dk_42 (dk_at dksX4_readsOne_5 8 rfl rfl)
theorem dX4_readsOne_144 : decode cX4_readsOne 144 = .ok (.getfield 330, 3) := dk_180 1 74 (dk_at dksX4_readsOne_5 9 rfl rfl)
theorem dX4_readsOne_147 : decode cX4_readsOne 147 = .ok (.imul, 1) := dk_104 (dk_at dksX4_readsOne_5 12 rfl rfl)
theorem dX4_readsOne_148 : decode cX4_readsOne 148 = .ok (.iconst 3, 1) := dk_6 (dk_at dksX4_readsOne_5 13 rfl rfl)
theorem dX4_readsOne_149 : decode cX4_readsOne 149 = .ok (.iadd, 1) := dk_96 (dk_at dksX4_readsOne_5 14 rfl rfl)
theorem dX4_readsOne_150 : decode cX4_readsOne 150 = .ok (.aload_n 0, 1) := dk_42 (dk_at dksX4_readsOne_5 15 rfl rfl)
theorem dX4_readsOne_151 : decode cX4_readsOne 151 = .ok (.iconst 3, 1) := dk_6 (dk_at dksX4_readsOne_5 16 rfl rfl)
theorem dX4_readsOne_152 : decode cX4_readsOne 152 = .ok (.invokevirtual 327, 3) := dk_182 1 71 (dk_at dksX4_readsOne_5 17 rfl rfl)
theorem dX4_readsOne_155 : decode cX4_readsOne 155 = .ok (.iastore, 1) := dk_79 (dk_at dksX4_readsOne_5 20 rfl rfl)
theorem dX4_readsOne_156 : decode cX4_readsOne 156 = .ok (.goto 93, 3) := dk_167 0 93 (dk_at dksX4_readsOne_5 21 rfl rfl)
theorem dX4_readsOne_159 : decode cX4_readsOne 159 = .ok (.aload_n 0, 1) := dk_42 (dk_at dksX4_readsOne_6 0 rfl rfl)
theorem dX4_readsOne_160 : decode cX4_readsOne 160 = .ok (.getfield 29, 3) := dk_180 0 29 (dk_at dksX4_readsOne_6 1 rfl rfl)
theorem dX4_readsOne_163 : decode cX4_readsOne 163 = .ok (.iconst 4, 1) := dk_7 (dk_at dksX4_readsOne_6 4 rfl rfl)
theorem dX4_readsOne_164 : decode cX4_readsOne 164 = .ok (.aload_n 0, 1) := dk_42 (dk_at dksX4_readsOne_6 5 rfl rfl)
theorem dX4_readsOne_165 : decode cX4_readsOne 165 = .ok (.getfield 330, 3) := dk_180 1 74 (dk_at dksX4_readsOne_6 6 rfl rfl)
theorem dX4_readsOne_168 : decode cX4_readsOne 168 = .ok (.imul, 1) := dk_104 (dk_at dksX4_readsOne_6 9 rfl rfl)
theorem dX4_readsOne_169 : decode cX4_readsOne 169 = .ok (.iconst 1, 1) := dk_4 (dk_at dksX4_readsOne_6 10 rfl rfl)
theorem dX4_readsOne_170 : decode cX4_readsOne 170 = .ok (.iadd, 1) := dk_96 (dk_at dksX4_readsOne_6 11 rfl rfl)
theorem dX4_readsOne_171 : decode cX4_readsOne 171 = .ok (.aload_n 0, 1) := dk_42 (dk_at dksX4_readsOne_6 12 rfl rfl)
theorem dX4_readsOne_172 : decode cX4_readsOne 172 = .ok (.iconst 3, 1) := dk_6 (dk_at dksX4_readsOne_6 13 rfl rfl)
theorem dX4_readsOne_173 : decode cX4_readsOne 173 = .ok (.invokevirtual 327, 3) := dk_182 1 71 (dk_at dksX4_readsOne_6 14 rfl rfl)
theorem dX4_readsOne_176 : decode cX4_readsOne 176 = .ok (.iastore, 1) := dk_79 (dk_at dksX4_readsOne_6 17 rfl rfl)
theorem dX4_readsOne_177 : decode cX4_readsOne 177 = .ok (.goto 72, 3) := dk_167 0 72 (dk_at dksX4_readsOne_6 18 rfl rfl)
theorem dX4_readsOne_180 : decode cX4_readsOne 180 = .ok (.aload_n 0, 1) := dk_42 (dk_at dksX4_readsOne_6 21 rfl rfl)
theorem dX4_readsOne_181 : decode cX4_readsOne 181 = .ok (.getfield 29, 3) := dk_180 0 29 (dk_at dksX4_readsOne_7 0 rfl rfl)
theorem dX4_readsOne_184 : decode cX4_readsOne 184 = .ok (.iconst 4, 1) := dk_7 (dk_at dksX4_readsOne_7 3 rfl rfl)
theorem dX4_readsOne_185 : decode cX4_readsOne 185 = .ok (.aload_n 0, 1) := dk_42 (dk_at dksX4_readsOne_7 4 rfl rfl)
theorem dX4_readsOne_186 : decode cX4_readsOne 186 = .ok (.getfield 330, 3) := dk_180 1 74 (dk_at dksX4_readsOne_7 5 rfl rfl)
theorem dX4_readsOne_189 : decode cX4_readsOne 189 = .ok (.imul, 1) := dk_104 (dk_at dksX4_readsOne_7 8 rfl rfl)
theorem dX4_readsOne_190 : decode cX4_readsOne 190 = .ok (.iconst 1, 1) := dk_4 (dk_at dksX4_readsOne_7 9 rfl rfl)
theorem dX4_readsOne_191 : decode cX4_readsOne 191 = .ok (.iadd, 1) := dk_96 (dk_at dksX4_readsOne_7 10 rfl rfl)
theorem dX4_readsOne_192 : decode cX4_readsOne 192 = .ok (.aload_n 0, 1) := dk_42 (dk_at dksX4_readsOne_7 11 rfl rfl)
theorem dX4_readsOne_193 : decode cX4_readsOne 193 = .ok (.iconst 1, 1) := dk_4 (dk_at dksX4_readsOne_7 12 rfl rfl)
theorem dX4_readsOne_194 : decode cX4_readsOne 194 = .ok (.invokevirtual 327, 3) := dk_182 1 71 (dk_at dksX4_readsOne_7 13 rfl rfl)
theorem dX4_readsOne_197 : decode cX4_readsOne 197 = .ok (.iastore, 1) := dk_79 (dk_at dksX4_readsOne_7 16 rfl rfl)
theorem dX4_readsOne_198 : decode cX4_readsOne 198 = .ok (.goto 51, 3) := dk_167 0 51 (dk_at dksX4_readsOne_7 17 rfl rfl)
theorem dX4_readsOne_201 : decode cX4_readsOne 201 = .ok (.aload_n 0, 1) := dk_42 (dk_at dksX4_readsOne_7 20 rfl rfl)
theorem dX4_readsOne_202 : decode cX4_readsOne 202 = .ok (.getfield 29, 3) := dk_180 0 29 (dk_at dksX4_readsOne_7 21 rfl rfl)
theorem dX4_readsOne_205 : decode cX4_readsOne 205 = .ok (.iconst 4, 1) := dk_7 (dk_at dksX4_readsOne_8 0 rfl rfl)
theorem dX4_readsOne_206 : decode cX4_readsOne 206 = .ok (.aload_n 0, 1) := dk_42 (dk_at dksX4_readsOne_8 1 rfl rfl)
theorem dX4_readsOne_207 : decode cX4_readsOne 207 = .ok (.getfield 330, 3) := dk_180 1 74 (dk_at dksX4_readsOne_8 2 rfl rfl)
theorem dX4_readsOne_210 : decode cX4_readsOne 210 = .ok (.imul, 1) := dk_104 (dk_at dksX4_readsOne_8 5 rfl rfl)
theorem dX4_readsOne_211 : decode cX4_readsOne 211 = .ok (.iconst 1, 1) := dk_4 (dk_at dksX4_readsOne_8 6 rfl rfl)
theorem dX4_readsOne_212 : decode cX4_readsOne 212 = .ok (.iadd, 1) := dk_96 (dk_at dksX4_readsOne_8 7 rfl rfl)
theorem dX4_readsOne_213 : decode cX4_readsOne 213 = .ok (.aload_n 0, 1) := dk_42 (dk_at dksX4_readsOne_8 8 rfl rfl)
theorem dX4_readsOne_214 : decode cX4_readsOne 214 = .ok (.getfield 225, 3) := dk_180 0 225 (dk_at dksX4_readsOne_8 9 rfl rfl)
theorem dX4_readsOne_217 : decode cX4_readsOne 217 = .ok (.iastore, 1) := dk_79 (dk_at dksX4_readsOne_8 12 rfl rfl)
theorem dX4_readsOne_218 : decode cX4_readsOne 218 = .ok (.aload_n 0, 1) := dk_42 (dk_at dksX4_readsOne_8 13 rfl rfl)
theorem dX4_readsOne_219 : decode cX4_readsOne 219 = .ok (.invokevirtual 238, 3) := dk_182 0 238 (dk_at dksX4_readsOne_8 14 rfl rfl)
theorem dX4_readsOne_222 : decode cX4_readsOne 222 = .ok (.goto 27, 3) := dk_167 0 27 (dk_at dksX4_readsOne_8 17 rfl rfl)
theorem dX4_readsOne_225 : decode cX4_readsOne 225 = .ok (.aload_n 0, 1) := dk_42 (dk_at dksX4_readsOne_8 20 rfl rfl)
theorem dX4_readsOne_226 : decode cX4_readsOne 226 = .ok (.iconst 1, 1) := dk_4 (dk_at dksX4_readsOne_8 21 rfl rfl)
theorem dX4_readsOne_227 : decode cX4_readsOne 227 = .ok (.putfield 234, 3) := dk_181 0 234 (dk_at dksX4_readsOne_9 0 rfl rfl)
theorem dX4_readsOne_230 : decode cX4_readsOne 230 = .ok (.aload_n 0, 1) := dk_42 (dk_at dksX4_readsOne_9 3 rfl rfl)
theorem dX4_readsOne_231 : decode cX4_readsOne 231 = .ok (.dup, 1) := dk_89 (dk_at dksX4_readsOne_9 4 rfl rfl)
theorem dX4_readsOne_232 : decode cX4_readsOne 232 = .ok (.getfield 225, 3) := dk_180 0 225 (dk_at dksX4_readsOne_9 5 rfl rfl)
theorem dX4_readsOne_235 : decode cX4_readsOne 235 = .ok (.iload_n 1, 1) := dk_27 (dk_at dksX4_readsOne_9 8 rfl rfl)
theorem dX4_readsOne_236 : decode cX4_readsOne 236 = .ok (.iconst (-1), 1) := dk_2 (dk_at dksX4_readsOne_9 9 rfl rfl)
theorem dX4_readsOne_237 : decode cX4_readsOne 237 = .ok (.if_icmp .ne 7, 3) := dk_160 0 7 (dk_at dksX4_readsOne_9 10 rfl rfl)
theorem dX4_readsOne_240 : decode cX4_readsOne 240 = .ok (.iconst 0, 1) := dk_3 (dk_at dksX4_readsOne_9 13 rfl rfl)
theorem dX4_readsOne_241 : decode cX4_readsOne 241 = .ok (.goto 4, 3) := dk_167 0 4 (dk_at dksX4_readsOne_9 14 rfl rfl)
theorem dX4_readsOne_244 : decode cX4_readsOne 244 = .ok (.iconst 1, 1) := dk_4 (dk_at dksX4_readsOne_9 17 rfl rfl)
theorem dX4_readsOne_245 : decode cX4_readsOne 245 = .ok (.isub, 1) := dk_100 (dk_at dksX4_readsOne_9 18 rfl rfl)
theorem dX4_readsOne_246 : decode cX4_readsOne 246 = .ok (.putfield 225, 3) := dk_181 0 225 (dk_at dksX4_readsOne_9 19 rfl rfl)
theorem dX4_readsOne_249 : decode cX4_readsOne 249 = .ok (.aload_n 0, 1) := dk_42 (dk_at dksX4_readsOne_9 22 rfl rfl)
theorem dX4_readsOne_250 : decode cX4_readsOne 250 = .ok (.dup, 1) := dk_89 (dk_at dksX4_readsOne_9 23 rfl rfl)
theorem dX4_readsOne_251 : decode cX4_readsOne 251 = .ok (.getfield 330, 3) := dk_180 1 74 (dk_at dksX4_readsOne_10 0 rfl rfl)
theorem dX4_readsOne_254 : decode cX4_readsOne 254 = .ok (.iconst 1, 1) := dk_4 (dk_at dksX4_readsOne_10 3 rfl rfl)
theorem dX4_readsOne_255 : decode cX4_readsOne 255 = .ok (.iadd, 1) := dk_96 (dk_at dksX4_readsOne_10 4 rfl rfl)
theorem dX4_readsOne_256 : decode cX4_readsOne 256 = .ok (.putfield 330, 3) := dk_181 1 74 (dk_at dksX4_readsOne_10 5 rfl rfl)
theorem dX4_readsOne_259 : decode cX4_readsOne 259 = .ok (.return_, 1) := dk_177 (dk_at dksX4_readsOne_10 8 rfl rfl)
abbrev cX4_does : ByteArray := prog_14_method_96_code
def yX4_does : MethodName := ⟨RX4, "does", "(I)I"⟩
def dkwX4_does_4 : List UInt8 := [42, 28, 182, 0, 254, 172, 42, 28, 182, 1, 14, 172, 42, 28, 182, 0, 247, 172, 42, 28, 182, 1, 77, 172]
abbrev dktX4_does_4 : List UInt8 := dkwX4_does_4 ++ []
def dkwX4_does_3 : List UInt8 := [42, 28, 29, 16, 10, 108, 29, 16, 10, 112, 42, 180, 0, 29, 7, 27, 104, 6, 96, 46, 182, 0, 250, 172]
abbrev dktX4_does_3 : List UInt8 := dkwX4_does_3 ++ dktX4_does_4
def dkwX4_does_2 : List UInt8 := [171, 0, 0, 0, 0, 84, 0, 0, 0, 4, 0, 0, 0, 43, 0, 0, 0, 42, 0, 0, 0, 45, 0, 0, 0, 66, 0, 0, 0, 102, 0, 0, 0, 72, 0, 0, 0, 120, 0, 0, 0, 78]
abbrev dktX4_does_2 : List UInt8 := dkwX4_does_2 ++ dktX4_does_3
def dkwX4_does_1 : List UInt8 := [180, 0, 29, 7, 27, 104, 46]
abbrev dktX4_does_1 : List UInt8 := dkwX4_does_1 ++ dktX4_does_2
def dkwX4_does_0 : List UInt8 := [42, 180, 0, 29, 7, 27, 104, 4, 96, 46, 61, 42, 180, 0, 29, 7, 27, 104, 5, 96, 46, 62, 42]
abbrev dktX4_does_0 : List UInt8 := dkwX4_does_0 ++ dktX4_does_1
theorem dksX4_does_0 : cX4_does.data.toList.drop 0 = dktX4_does_0 := by decide +kernel
theorem dksX4_does_1 : cX4_does.data.toList.drop 23 = dktX4_does_1 := dk_seg dksX4_does_0 23 rfl rfl
theorem dksX4_does_2 : cX4_does.data.toList.drop 30 = dktX4_does_2 := dk_seg dksX4_does_1 7 rfl rfl
theorem dksX4_does_3 : cX4_does.data.toList.drop 72 = dktX4_does_3 := dk_seg dksX4_does_2 42 rfl rfl
theorem dksX4_does_4 : cX4_does.data.toList.drop 96 = dktX4_does_4 := dk_seg dksX4_does_3 24 rfl rfl
theorem dX4_does_0 : decode cX4_does 0 = .ok (.aload_n 0, 1) := dk_42 (dk_at dksX4_does_0 0 rfl rfl)
theorem dX4_does_1 : decode cX4_does 1 = .ok (.getfield 29, 3) := dk_180 0 29 (dk_at dksX4_does_0 1 rfl rfl)
theorem dX4_does_4 : decode cX4_does 4 = .ok (.iconst 4, 1) := dk_7 (dk_at dksX4_does_0 4 rfl rfl)
theorem dX4_does_5 : decode cX4_does 5 = .ok (.iload_n 1, 1) := dk_27 (dk_at dksX4_does_0 5 rfl rfl)
theorem dX4_does_6 : decode cX4_does 6 = .ok (.imul, 1) := dk_104 (dk_at dksX4_does_0 6 rfl rfl)
theorem dX4_does_7 : decode cX4_does 7 = .ok (.iconst 1, 1) := dk_4 (dk_at dksX4_does_0 7 rfl rfl)
theorem dX4_does_8 : decode cX4_does 8 = .ok (.iadd, 1) := dk_96 (dk_at dksX4_does_0 8 rfl rfl)
theorem dX4_does_9 : decode cX4_does 9 = .ok (.iaload, 1) := dk_46 (dk_at dksX4_does_0 9 rfl rfl)
theorem dX4_does_10 : decode cX4_does 10 = .ok (.istore_n 2, 1) := dk_61 (dk_at dksX4_does_0 10 rfl rfl)
theorem dX4_does_11 : decode cX4_does 11 = .ok (.aload_n 0, 1) := dk_42 (dk_at dksX4_does_0 11 rfl rfl)
theorem dX4_does_12 : decode cX4_does 12 = .ok (.getfield 29, 3) := dk_180 0 29 (dk_at dksX4_does_0 12 rfl rfl)
theorem dX4_does_15 : decode cX4_does 15 = .ok (.iconst 4, 1) := dk_7 (dk_at dksX4_does_0 15 rfl rfl)
theorem dX4_does_16 : decode cX4_does 16 = .ok (.iload_n 1, 1) := dk_27 (dk_at dksX4_does_0 16 rfl rfl)
theorem dX4_does_17 : decode cX4_does 17 = .ok (.imul, 1) := dk_104 (dk_at dksX4_does_0 17 rfl rfl)
theorem dX4_does_18 : decode cX4_does 18 = .ok (.iconst 2, 1) := dk_5 (dk_at dksX4_does_0 18 rfl rfl)
theorem dX4_does_19 : decode cX4_does 19 = .ok (.iadd, 1) := dk_96 (dk_at dksX4_does_0 19 rfl rfl)
theorem dX4_does_20 : decode cX4_does 20 = .ok (.iaload, 1) := dk_46 (dk_at dksX4_does_0 20 rfl rfl)
theorem dX4_does_21 : decode cX4_does 21 = .ok (.istore_n 3, 1) := dk_62 (dk_at dksX4_does_0 21 rfl rfl)
theorem dX4_does_22 : decode cX4_does 22 = .ok (.aload_n 0, 1) := dk_42 (dk_at dksX4_does_0 22 rfl rfl)
theorem dX4_does_23 : decode cX4_does 23 = .ok (.getfield 29, 3) := dk_180 0 29 (dk_at dksX4_does_1 0 rfl rfl)
theorem dX4_does_26 : decode cX4_does 26 = .ok (.iconst 4, 1) := dk_7 (dk_at dksX4_does_1 3 rfl rfl)
theorem dX4_does_27 : decode cX4_does 27 = .ok (.iload_n 1, 1) := dk_27 (dk_at dksX4_does_1 4 rfl rfl)
theorem dX4_does_28 : decode cX4_does 28 = .ok (.imul, 1) := dk_104 (dk_at dksX4_does_1 5 rfl rfl)
theorem dX4_does_29 : decode cX4_does 29 = .ok (.iaload, 1) := dk_46 (dk_at dksX4_does_1 6 rfl rfl)
theorem dX4_does_30 : decode cX4_does 30 = .ok (.lookupswitch 84 #[(43, 42), (45, 66), (102, 72), (120, 78)], 42) := by decide +kernel
theorem dX4_does_72 : decode cX4_does 72 = .ok (.aload_n 0, 1) := dk_42 (dk_at dksX4_does_3 0 rfl rfl)
theorem dX4_does_73 : decode cX4_does 73 = .ok (.iload_n 2, 1) := dk_28 (dk_at dksX4_does_3 1 rfl rfl)
theorem dX4_does_74 : decode cX4_does 74 = .ok (.iload_n 3, 1) := dk_29 (dk_at dksX4_does_3 2 rfl rfl)
theorem dX4_does_75 : decode cX4_does 75 = .ok (.bipush 10, 2) := dk_16 10 (dk_at dksX4_does_3 3 rfl rfl)
theorem dX4_does_77 : decode cX4_does 77 = .ok (.idiv, 1) := dk_108 (dk_at dksX4_does_3 5 rfl rfl)
theorem dX4_does_78 : decode cX4_does 78 = .ok (.iload_n 3, 1) := dk_29 (dk_at dksX4_does_3 6 rfl rfl)
theorem dX4_does_79 : decode cX4_does 79 = .ok (.bipush 10, 2) := dk_16 10 (dk_at dksX4_does_3 7 rfl rfl)
theorem dX4_does_81 : decode cX4_does 81 = .ok (.irem, 1) := dk_112 (dk_at dksX4_does_3 9 rfl rfl)
theorem dX4_does_82 : decode cX4_does 82 = .ok (.aload_n 0, 1) := dk_42 (dk_at dksX4_does_3 10 rfl rfl)
theorem dX4_does_83 : decode cX4_does 83 = .ok (.getfield 29, 3) := dk_180 0 29 (dk_at dksX4_does_3 11 rfl rfl)
theorem dX4_does_86 : decode cX4_does 86 = .ok (.iconst 4, 1) := dk_7 (dk_at dksX4_does_3 14 rfl rfl)
theorem dX4_does_87 : decode cX4_does 87 = .ok (.iload_n 1, 1) := dk_27 (dk_at dksX4_does_3 15 rfl rfl)
theorem dX4_does_88 : decode cX4_does 88 = .ok (.imul, 1) := dk_104 (dk_at dksX4_does_3 16 rfl rfl)
theorem dX4_does_89 : decode cX4_does 89 = .ok (.iconst 3, 1) := dk_6 (dk_at dksX4_does_3 17 rfl rfl)
theorem dX4_does_90 : decode cX4_does 90 = .ok (.iadd, 1) := dk_96 (dk_at dksX4_does_3 18 rfl rfl)
theorem dX4_does_91 : decode cX4_does 91 = .ok (.iaload, 1) := dk_46 (dk_at dksX4_does_3 19 rfl rfl)
theorem dX4_does_92 : decode cX4_does 92 = .ok (.invokevirtual 250, 3) := dk_182 0 250 (dk_at dksX4_does_3 20 rfl rfl)
theorem dX4_does_95 : decode cX4_does 95 = .ok (.ireturn, 1) := dk_172 (dk_at dksX4_does_3 23 rfl rfl)
theorem dX4_does_96 : decode cX4_does 96 = .ok (.aload_n 0, 1) := dk_42 (dk_at dksX4_does_4 0 rfl rfl)
theorem dX4_does_97 : decode cX4_does 97 = .ok (.iload_n 2, 1) := dk_28 (dk_at dksX4_does_4 1 rfl rfl)
theorem dX4_does_98 : decode cX4_does 98 = .ok (.invokevirtual 254, 3) := dk_182 0 254 (dk_at dksX4_does_4 2 rfl rfl)
theorem dX4_does_101 : decode cX4_does 101 = .ok (.ireturn, 1) := dk_172 (dk_at dksX4_does_4 5 rfl rfl)
theorem dX4_does_102 : decode cX4_does 102 = .ok (.aload_n 0, 1) := dk_42 (dk_at dksX4_does_4 6 rfl rfl)
theorem dX4_does_103 : decode cX4_does 103 = .ok (.iload_n 2, 1) := dk_28 (dk_at dksX4_does_4 7 rfl rfl)
theorem dX4_does_104 : decode cX4_does 104 = .ok (.invokevirtual 270, 3) := dk_182 1 14 (dk_at dksX4_does_4 8 rfl rfl)
theorem dX4_does_107 : decode cX4_does 107 = .ok (.ireturn, 1) := dk_172 (dk_at dksX4_does_4 11 rfl rfl)
theorem dX4_does_108 : decode cX4_does 108 = .ok (.aload_n 0, 1) := dk_42 (dk_at dksX4_does_4 12 rfl rfl)
theorem dX4_does_109 : decode cX4_does 109 = .ok (.iload_n 2, 1) := dk_28 (dk_at dksX4_does_4 13 rfl rfl)
theorem dX4_does_110 : decode cX4_does 110 = .ok (.invokevirtual 247, 3) := dk_182 0 247 (dk_at dksX4_does_4 14 rfl rfl)
theorem dX4_does_113 : decode cX4_does 113 = .ok (.ireturn, 1) := dk_172 (dk_at dksX4_does_4 17 rfl rfl)
theorem dX4_does_114 : decode cX4_does 114 = .ok (.aload_n 0, 1) := dk_42 (dk_at dksX4_does_4 18 rfl rfl)
theorem dX4_does_115 : decode cX4_does 115 = .ok (.iload_n 2, 1) := dk_28 (dk_at dksX4_does_4 19 rfl rfl)
theorem dX4_does_116 : decode cX4_does 116 = .ok (.invokevirtual 333, 3) := dk_182 1 77 (dk_at dksX4_does_4 20 rfl rfl)
theorem dX4_does_119 : decode cX4_does 119 = .ok (.ireturn, 1) := dk_172 (dk_at dksX4_does_4 23 rfl rfl)
abbrev cX4_addsRuleAt : ByteArray := prog_14_method_95_code
def yX4_addsRuleAt : MethodName := ⟨RX4, "addsRuleAt", "(I)I"⟩
def dkwX4_addsRuleAt_0 : List UInt8 := [42, 27, 181, 0, 225, 42, 3, 181, 0, 234, 42, 182, 0, 238, 42, 182, 0, 241, 172]
abbrev dktX4_addsRuleAt_0 : List UInt8 := dkwX4_addsRuleAt_0 ++ []
theorem dksX4_addsRuleAt_0 : cX4_addsRuleAt.data.toList.drop 0 = dktX4_addsRuleAt_0 := by decide +kernel
theorem dX4_addsRuleAt_0 : decode cX4_addsRuleAt 0 = .ok (.aload_n 0, 1) := dk_42 (dk_at dksX4_addsRuleAt_0 0 rfl rfl)
theorem dX4_addsRuleAt_1 : decode cX4_addsRuleAt 1 = .ok (.iload_n 1, 1) := dk_27 (dk_at dksX4_addsRuleAt_0 1 rfl rfl)
theorem dX4_addsRuleAt_2 : decode cX4_addsRuleAt 2 = .ok (.putfield 225, 3) := dk_181 0 225 (dk_at dksX4_addsRuleAt_0 2 rfl rfl)
theorem dX4_addsRuleAt_5 : decode cX4_addsRuleAt 5 = .ok (.aload_n 0, 1) := dk_42 (dk_at dksX4_addsRuleAt_0 5 rfl rfl)
theorem dX4_addsRuleAt_6 : decode cX4_addsRuleAt 6 = .ok (.iconst 0, 1) := dk_3 (dk_at dksX4_addsRuleAt_0 6 rfl rfl)
theorem dX4_addsRuleAt_7 : decode cX4_addsRuleAt 7 = .ok (.putfield 234, 3) := dk_181 0 234 (dk_at dksX4_addsRuleAt_0 7 rfl rfl)
theorem dX4_addsRuleAt_10 : decode cX4_addsRuleAt 10 = .ok (.aload_n 0, 1) := dk_42 (dk_at dksX4_addsRuleAt_0 10 rfl rfl)
theorem dX4_addsRuleAt_11 : decode cX4_addsRuleAt 11 = .ok (.invokevirtual 238, 3) := dk_182 0 238 (dk_at dksX4_addsRuleAt_0 11 rfl rfl)
theorem dX4_addsRuleAt_14 : decode cX4_addsRuleAt 14 = .ok (.aload_n 0, 1) := dk_42 (dk_at dksX4_addsRuleAt_0 14 rfl rfl)
theorem dX4_addsRuleAt_15 : decode cX4_addsRuleAt 15 = .ok (.invokevirtual 241, 3) := dk_182 0 241 (dk_at dksX4_addsRuleAt_0 15 rfl rfl)
theorem dX4_addsRuleAt_18 : decode cX4_addsRuleAt 18 = .ok (.ireturn, 1) := dk_172 (dk_at dksX4_addsRuleAt_0 18 rfl rfl)
abbrev cX4_errorPosition : ByteArray := prog_14_method_98_code
def yX4_errorPosition : MethodName := ⟨RX4, "errorPosition", "()I"⟩
def dkwX4_errorPosition_1 : List UInt8 := [180, 0, 74, 172]
abbrev dktX4_errorPosition_1 : List UInt8 := dkwX4_errorPosition_1 ++ []
def dkwX4_errorPosition_0 : List UInt8 := [42, 3, 181, 0, 84, 42, 180, 0, 74, 2, 160, 0, 11, 42, 4, 182, 0, 101, 167, 0, 7, 42]
abbrev dktX4_errorPosition_0 : List UInt8 := dkwX4_errorPosition_0 ++ dktX4_errorPosition_1
theorem dksX4_errorPosition_0 : cX4_errorPosition.data.toList.drop 0 = dktX4_errorPosition_0 := by decide +kernel
theorem dksX4_errorPosition_1 : cX4_errorPosition.data.toList.drop 22 = dktX4_errorPosition_1 := dk_seg dksX4_errorPosition_0 22 rfl rfl
theorem dX4_errorPosition_0 : decode cX4_errorPosition 0 = .ok (.aload_n 0, 1) := dk_42 (dk_at dksX4_errorPosition_0 0 rfl rfl)
theorem dX4_errorPosition_1 : decode cX4_errorPosition 1 = .ok (.iconst 0, 1) := dk_3 (dk_at dksX4_errorPosition_0 1 rfl rfl)
theorem dX4_errorPosition_2 : decode cX4_errorPosition 2 = .ok (.putfield 84, 3) := dk_181 0 84 (dk_at dksX4_errorPosition_0 2 rfl rfl)
theorem dX4_errorPosition_5 : decode cX4_errorPosition 5 = .ok (.aload_n 0, 1) := dk_42 (dk_at dksX4_errorPosition_0 5 rfl rfl)
theorem dX4_errorPosition_6 : decode cX4_errorPosition 6 = .ok (.getfield 74, 3) := dk_180 0 74 (dk_at dksX4_errorPosition_0 6 rfl rfl)
theorem dX4_errorPosition_9 : decode cX4_errorPosition 9 = .ok (.iconst (-1), 1) := dk_2 (dk_at dksX4_errorPosition_0 9 rfl rfl)
theorem dX4_errorPosition_10 : decode cX4_errorPosition 10 = .ok (.if_icmp .ne 11, 3) := dk_160 0 11 (dk_at dksX4_errorPosition_0 10 rfl rfl)
theorem dX4_errorPosition_13 : decode cX4_errorPosition 13 = .ok (.aload_n 0, 1) := dk_42 (dk_at dksX4_errorPosition_0 13 rfl rfl)
theorem dX4_errorPosition_14 : decode cX4_errorPosition 14 = .ok (.iconst 1, 1) := dk_4 (dk_at dksX4_errorPosition_0 14 rfl rfl)
theorem dX4_errorPosition_15 : decode cX4_errorPosition 15 = .ok (.invokevirtual 101, 3) := dk_182 0 101 (dk_at dksX4_errorPosition_0 15 rfl rfl)
theorem dX4_errorPosition_18 : decode cX4_errorPosition 18 = .ok (.goto 7, 3) := dk_167 0 7 (dk_at dksX4_errorPosition_0 18 rfl rfl)
theorem dX4_errorPosition_21 : decode cX4_errorPosition 21 = .ok (.aload_n 0, 1) := dk_42 (dk_at dksX4_errorPosition_0 21 rfl rfl)
theorem dX4_errorPosition_22 : decode cX4_errorPosition 22 = .ok (.getfield 74, 3) := dk_180 0 74 (dk_at dksX4_errorPosition_1 0 rfl rfl)
theorem dX4_errorPosition_25 : decode cX4_errorPosition 25 = .ok (.ireturn, 1) := dk_172 (dk_at dksX4_errorPosition_1 3 rfl rfl)
abbrev cX4_refusedItem : ByteArray := prog_14_method_99_code
def yX4_refusedItem : MethodName := ⟨RX4, "refusedItem", "()I"⟩
def dkwX4_refusedItem_1 : List UInt8 := [180, 0, 78, 172]
abbrev dktX4_refusedItem_1 : List UInt8 := dkwX4_refusedItem_1 ++ []
def dkwX4_refusedItem_0 : List UInt8 := [42, 3, 181, 0, 84, 42, 180, 0, 78, 2, 160, 0, 11, 42, 4, 182, 0, 101, 167, 0, 7, 42]
abbrev dktX4_refusedItem_0 : List UInt8 := dkwX4_refusedItem_0 ++ dktX4_refusedItem_1
theorem dksX4_refusedItem_0 : cX4_refusedItem.data.toList.drop 0 = dktX4_refusedItem_0 := by decide +kernel
theorem dksX4_refusedItem_1 : cX4_refusedItem.data.toList.drop 22 = dktX4_refusedItem_1 := dk_seg dksX4_refusedItem_0 22 rfl rfl
theorem dX4_refusedItem_0 : decode cX4_refusedItem 0 = .ok (.aload_n 0, 1) := dk_42 (dk_at dksX4_refusedItem_0 0 rfl rfl)
theorem dX4_refusedItem_1 : decode cX4_refusedItem 1 = .ok (.iconst 0, 1) := dk_3 (dk_at dksX4_refusedItem_0 1 rfl rfl)
theorem dX4_refusedItem_2 : decode cX4_refusedItem 2 = .ok (.putfield 84, 3) := dk_181 0 84 (dk_at dksX4_refusedItem_0 2 rfl rfl)
theorem dX4_refusedItem_5 : decode cX4_refusedItem 5 = .ok (.aload_n 0, 1) := dk_42 (dk_at dksX4_refusedItem_0 5 rfl rfl)
theorem dX4_refusedItem_6 : decode cX4_refusedItem 6 = .ok (.getfield 78, 3) := dk_180 0 78 (dk_at dksX4_refusedItem_0 6 rfl rfl)
theorem dX4_refusedItem_9 : decode cX4_refusedItem 9 = .ok (.iconst (-1), 1) := dk_2 (dk_at dksX4_refusedItem_0 9 rfl rfl)
theorem dX4_refusedItem_10 : decode cX4_refusedItem 10 = .ok (.if_icmp .ne 11, 3) := dk_160 0 11 (dk_at dksX4_refusedItem_0 10 rfl rfl)
theorem dX4_refusedItem_13 : decode cX4_refusedItem 13 = .ok (.aload_n 0, 1) := dk_42 (dk_at dksX4_refusedItem_0 13 rfl rfl)
theorem dX4_refusedItem_14 : decode cX4_refusedItem 14 = .ok (.iconst 1, 1) := dk_4 (dk_at dksX4_refusedItem_0 14 rfl rfl)
theorem dX4_refusedItem_15 : decode cX4_refusedItem 15 = .ok (.invokevirtual 101, 3) := dk_182 0 101 (dk_at dksX4_refusedItem_0 15 rfl rfl)
theorem dX4_refusedItem_18 : decode cX4_refusedItem 18 = .ok (.goto 7, 3) := dk_167 0 7 (dk_at dksX4_refusedItem_0 18 rfl rfl)
theorem dX4_refusedItem_21 : decode cX4_refusedItem 21 = .ok (.aload_n 0, 1) := dk_42 (dk_at dksX4_refusedItem_0 21 rfl rfl)
theorem dX4_refusedItem_22 : decode cX4_refusedItem 22 = .ok (.getfield 78, 3) := dk_180 0 78 (dk_at dksX4_refusedItem_1 0 rfl rfl)
theorem dX4_refusedItem_25 : decode cX4_refusedItem 25 = .ok (.ireturn, 1) := dk_172 (dk_at dksX4_refusedItem_1 3 rfl rfl)
abbrev cX4_undo : ByteArray := prog_14_method_100_code
def yX4_undo : MethodName := ⟨RX4, "undo", "()I"⟩
def dkwX4_undo_2 : List UInt8 := [17, 53, 107, 42, 180, 0, 87, 104, 27, 96, 46, 79, 132, 1, 1, 167, 255, 225, 42, 180, 0, 87, 172]
abbrev dktX4_undo_2 : List UInt8 := dkwX4_undo_2 ++ []
def dkwX4_undo_1 : List UInt8 := [100, 181, 0, 87, 3, 60, 27, 17, 53, 107, 162, 0, 30, 42, 180, 0, 7, 27, 42, 180, 0, 23]
abbrev dktX4_undo_1 : List UInt8 := dkwX4_undo_1 ++ dktX4_undo_2
def dkwX4_undo_0 : List UInt8 := [42, 3, 181, 0, 84, 42, 180, 0, 87, 154, 0, 9, 42, 4, 182, 0, 101, 172, 42, 89, 180, 0, 87, 4]
abbrev dktX4_undo_0 : List UInt8 := dkwX4_undo_0 ++ dktX4_undo_1
theorem dksX4_undo_0 : cX4_undo.data.toList.drop 0 = dktX4_undo_0 := by decide +kernel
theorem dksX4_undo_1 : cX4_undo.data.toList.drop 24 = dktX4_undo_1 := dk_seg dksX4_undo_0 24 rfl rfl
theorem dksX4_undo_2 : cX4_undo.data.toList.drop 46 = dktX4_undo_2 := dk_seg dksX4_undo_1 22 rfl rfl
theorem dX4_undo_0 : decode cX4_undo 0 = .ok (.aload_n 0, 1) := dk_42 (dk_at dksX4_undo_0 0 rfl rfl)
theorem dX4_undo_1 : decode cX4_undo 1 = .ok (.iconst 0, 1) := dk_3 (dk_at dksX4_undo_0 1 rfl rfl)
theorem dX4_undo_2 : decode cX4_undo 2 = .ok (.putfield 84, 3) := dk_181 0 84 (dk_at dksX4_undo_0 2 rfl rfl)
theorem dX4_undo_5 : decode cX4_undo 5 = .ok (.aload_n 0, 1) := dk_42 (dk_at dksX4_undo_0 5 rfl rfl)
theorem dX4_undo_6 : decode cX4_undo 6 = .ok (.getfield 87, 3) := dk_180 0 87 (dk_at dksX4_undo_0 6 rfl rfl)
theorem dX4_undo_9 : decode cX4_undo 9 = .ok (.ifCond .ne 9, 3) := dk_154 0 9 (dk_at dksX4_undo_0 9 rfl rfl)
theorem dX4_undo_12 : decode cX4_undo 12 = .ok (.aload_n 0, 1) := dk_42 (dk_at dksX4_undo_0 12 rfl rfl)
theorem dX4_undo_13 : decode cX4_undo 13 = .ok (.iconst 1, 1) := dk_4 (dk_at dksX4_undo_0 13 rfl rfl)
theorem dX4_undo_14 : decode cX4_undo 14 = .ok (.invokevirtual 101, 3) := dk_182 0 101 (dk_at dksX4_undo_0 14 rfl rfl)
theorem dX4_undo_17 : decode cX4_undo 17 = .ok (.ireturn, 1) := dk_172 (dk_at dksX4_undo_0 17 rfl rfl)
theorem dX4_undo_18 : decode cX4_undo 18 = .ok (.aload_n 0, 1) := dk_42 (dk_at dksX4_undo_0 18 rfl rfl)
theorem dX4_undo_19 : decode cX4_undo 19 = .ok (.dup, 1) := dk_89 (dk_at dksX4_undo_0 19 rfl rfl)
theorem dX4_undo_20 : decode cX4_undo 20 = .ok (.getfield 87, 3) := dk_180 0 87 (dk_at dksX4_undo_0 20 rfl rfl)
theorem dX4_undo_23 : decode cX4_undo 23 = .ok (.iconst 1, 1) := dk_4 (dk_at dksX4_undo_0 23 rfl rfl)
theorem dX4_undo_24 : decode cX4_undo 24 = .ok (.isub, 1) := dk_100 (dk_at dksX4_undo_1 0 rfl rfl)
theorem dX4_undo_25 : decode cX4_undo 25 = .ok (.putfield 87, 3) := dk_181 0 87 (dk_at dksX4_undo_1 1 rfl rfl)
theorem dX4_undo_28 : decode cX4_undo 28 = .ok (.iconst 0, 1) := dk_3 (dk_at dksX4_undo_1 4 rfl rfl)
theorem dX4_undo_29 : decode cX4_undo 29 = .ok (.istore_n 1, 1) := dk_60 (dk_at dksX4_undo_1 5 rfl rfl)
theorem dX4_undo_30 : decode cX4_undo 30 = .ok (.iload_n 1, 1) := dk_27 (dk_at dksX4_undo_1 6 rfl rfl)
theorem dX4_undo_31 : decode cX4_undo 31 = .ok (.sipush 13675, 3) := dk_17 53 107 (dk_at dksX4_undo_1 7 rfl rfl)
theorem dX4_undo_34 : decode cX4_undo 34 = .ok (.if_icmp .ge 30, 3) := dk_162 0 30 (dk_at dksX4_undo_1 10 rfl rfl)
theorem dX4_undo_37 : decode cX4_undo 37 = .ok (.aload_n 0, 1) := dk_42 (dk_at dksX4_undo_1 13 rfl rfl)
theorem dX4_undo_38 : decode cX4_undo 38 = .ok (.getfield 7, 3) := dk_180 0 7 (dk_at dksX4_undo_1 14 rfl rfl)
theorem dX4_undo_41 : decode cX4_undo 41 = .ok (.iload_n 1, 1) := dk_27 (dk_at dksX4_undo_1 17 rfl rfl)
theorem dX4_undo_42 : decode cX4_undo 42 = .ok (.aload_n 0, 1) := dk_42 (dk_at dksX4_undo_1 18 rfl rfl)
theorem dX4_undo_43 : decode cX4_undo 43 = .ok (.getfield 23, 3) := dk_180 0 23 (dk_at dksX4_undo_1 19 rfl rfl)
theorem dX4_undo_46 : decode cX4_undo 46 = .ok (.sipush 13675, 3) := dk_17 53 107 (dk_at dksX4_undo_2 0 rfl rfl)
theorem dX4_undo_49 : decode cX4_undo 49 = .ok (.aload_n 0, 1) := dk_42 (dk_at dksX4_undo_2 3 rfl rfl)
theorem dX4_undo_50 : decode cX4_undo 50 = .ok (.getfield 87, 3) := dk_180 0 87 (dk_at dksX4_undo_2 4 rfl rfl)
theorem dX4_undo_53 : decode cX4_undo 53 = .ok (.imul, 1) := dk_104 (dk_at dksX4_undo_2 7 rfl rfl)
theorem dX4_undo_54 : decode cX4_undo 54 = .ok (.iload_n 1, 1) := dk_27 (dk_at dksX4_undo_2 8 rfl rfl)
theorem dX4_undo_55 : decode cX4_undo 55 = .ok (.iadd, 1) := dk_96 (dk_at dksX4_undo_2 9 rfl rfl)
theorem dX4_undo_56 : decode cX4_undo 56 = .ok (.iaload, 1) := dk_46 (dk_at dksX4_undo_2 10 rfl rfl)
theorem dX4_undo_57 : decode cX4_undo 57 = .ok (.iastore, 1) := dk_79 (dk_at dksX4_undo_2 11 rfl rfl)
theorem dX4_undo_58 : decode cX4_undo 58 = .ok (.iinc 1 1, 3) := dk_132 1 1 (dk_at dksX4_undo_2 12 rfl rfl)
theorem dX4_undo_61 : decode cX4_undo 61 = .ok (.goto (-31), 3) := dk_167 255 225 (dk_at dksX4_undo_2 15 rfl rfl)
theorem dX4_undo_64 : decode cX4_undo 64 = .ok (.aload_n 0, 1) := dk_42 (dk_at dksX4_undo_2 18 rfl rfl)
theorem dX4_undo_65 : decode cX4_undo 65 = .ok (.getfield 87, 3) := dk_180 0 87 (dk_at dksX4_undo_2 19 rfl rfl)
theorem dX4_undo_68 : decode cX4_undo 68 = .ok (.ireturn, 1) := dk_172 (dk_at dksX4_undo_2 22 rfl rfl)
abbrev cX4_snapshot : ByteArray := prog_14_method_101_code
def yX4_snapshot : MethodName := ⟨RX4, "snapshot", "()I"⟩
def dkwX4_snapshot_1 : List UInt8 := [46, 79, 132, 1, 1, 167, 255, 234, 42, 4, 181, 1, 86, 42, 180, 0, 7, 4, 46, 172]
abbrev dktX4_snapshot_1 : List UInt8 := dkwX4_snapshot_1 ++ []
def dkwX4_snapshot_0 : List UInt8 := [42, 3, 181, 0, 84, 3, 60, 27, 17, 53, 107, 162, 0, 21, 42, 180, 0, 16, 27, 42, 180, 0, 7, 27]
abbrev dktX4_snapshot_0 : List UInt8 := dkwX4_snapshot_0 ++ dktX4_snapshot_1
theorem dksX4_snapshot_0 : cX4_snapshot.data.toList.drop 0 = dktX4_snapshot_0 := by decide +kernel
theorem dksX4_snapshot_1 : cX4_snapshot.data.toList.drop 24 = dktX4_snapshot_1 := dk_seg dksX4_snapshot_0 24 rfl rfl
theorem dX4_snapshot_0 : decode cX4_snapshot 0 = .ok (.aload_n 0, 1) := dk_42 (dk_at dksX4_snapshot_0 0 rfl rfl)
theorem dX4_snapshot_1 : decode cX4_snapshot 1 = .ok (.iconst 0, 1) := dk_3 (dk_at dksX4_snapshot_0 1 rfl rfl)
theorem dX4_snapshot_2 : decode cX4_snapshot 2 = .ok (.putfield 84, 3) := dk_181 0 84 (dk_at dksX4_snapshot_0 2 rfl rfl)
theorem dX4_snapshot_5 : decode cX4_snapshot 5 = .ok (.iconst 0, 1) := dk_3 (dk_at dksX4_snapshot_0 5 rfl rfl)
theorem dX4_snapshot_6 : decode cX4_snapshot 6 = .ok (.istore_n 1, 1) := dk_60 (dk_at dksX4_snapshot_0 6 rfl rfl)
theorem dX4_snapshot_7 : decode cX4_snapshot 7 = .ok (.iload_n 1, 1) := dk_27 (dk_at dksX4_snapshot_0 7 rfl rfl)
theorem dX4_snapshot_8 : decode cX4_snapshot 8 = .ok (.sipush 13675, 3) := dk_17 53 107 (dk_at dksX4_snapshot_0 8 rfl rfl)
theorem dX4_snapshot_11 : decode cX4_snapshot 11 = .ok (.if_icmp .ge 21, 3) := dk_162 0 21 (dk_at dksX4_snapshot_0 11 rfl rfl)
theorem dX4_snapshot_14 : decode cX4_snapshot 14 = .ok (.aload_n 0, 1) := dk_42 (dk_at dksX4_snapshot_0 14 rfl rfl)
theorem dX4_snapshot_15 : decode cX4_snapshot 15 = .ok (.getfield 16, 3) := dk_180 0 16 (dk_at dksX4_snapshot_0 15 rfl rfl)
theorem dX4_snapshot_18 : decode cX4_snapshot 18 = .ok (.iload_n 1, 1) := dk_27 (dk_at dksX4_snapshot_0 18 rfl rfl)
theorem dX4_snapshot_19 : decode cX4_snapshot 19 = .ok (.aload_n 0, 1) := dk_42 (dk_at dksX4_snapshot_0 19 rfl rfl)
theorem dX4_snapshot_20 : decode cX4_snapshot 20 = .ok (.getfield 7, 3) := dk_180 0 7 (dk_at dksX4_snapshot_0 20 rfl rfl)
theorem dX4_snapshot_23 : decode cX4_snapshot 23 = .ok (.iload_n 1, 1) := dk_27 (dk_at dksX4_snapshot_0 23 rfl rfl)
theorem dX4_snapshot_24 : decode cX4_snapshot 24 = .ok (.iaload, 1) := dk_46 (dk_at dksX4_snapshot_1 0 rfl rfl)
theorem dX4_snapshot_25 : decode cX4_snapshot 25 = .ok (.iastore, 1) := dk_79 (dk_at dksX4_snapshot_1 1 rfl rfl)
theorem dX4_snapshot_26 : decode cX4_snapshot 26 = .ok (.iinc 1 1, 3) := dk_132 1 1 (dk_at dksX4_snapshot_1 2 rfl rfl)
theorem dX4_snapshot_29 : decode cX4_snapshot 29 = .ok (.goto (-22), 3) := dk_167 255 234 (dk_at dksX4_snapshot_1 5 rfl rfl)
theorem dX4_snapshot_32 : decode cX4_snapshot 32 = .ok (.aload_n 0, 1) := dk_42 (dk_at dksX4_snapshot_1 8 rfl rfl)
theorem dX4_snapshot_33 : decode cX4_snapshot 33 = .ok (.iconst 1, 1) := dk_4 (dk_at dksX4_snapshot_1 9 rfl rfl)
theorem dX4_snapshot_34 : decode cX4_snapshot 34 = .ok (.putfield 342, 3) := dk_181 1 86 (dk_at dksX4_snapshot_1 10 rfl rfl)
theorem dX4_snapshot_37 : decode cX4_snapshot 37 = .ok (.aload_n 0, 1) := dk_42 (dk_at dksX4_snapshot_1 13 rfl rfl)
theorem dX4_snapshot_38 : decode cX4_snapshot 38 = .ok (.getfield 7, 3) := dk_180 0 7 (dk_at dksX4_snapshot_1 14 rfl rfl)
theorem dX4_snapshot_41 : decode cX4_snapshot 41 = .ok (.iconst 1, 1) := dk_4 (dk_at dksX4_snapshot_1 17 rfl rfl)
theorem dX4_snapshot_42 : decode cX4_snapshot 42 = .ok (.iaload, 1) := dk_46 (dk_at dksX4_snapshot_1 18 rfl rfl)
theorem dX4_snapshot_43 : decode cX4_snapshot 43 = .ok (.ireturn, 1) := dk_172 (dk_at dksX4_snapshot_1 19 rfl rfl)
abbrev cX4_restore : ByteArray := prog_14_method_102_code
def yX4_restore : MethodName := ⟨RX4, "restore", "()I"⟩
def dkwX4_restore_2 : List UInt8 := [181, 0, 87, 42, 180, 0, 7, 4, 46, 172]
abbrev dktX4_restore_2 : List UInt8 := dkwX4_restore_2 ++ []
def dkwX4_restore_1 : List UInt8 := [162, 0, 21, 42, 180, 0, 7, 27, 42, 180, 0, 16, 27, 46, 79, 132, 1, 1, 167, 255, 234, 42, 3]
abbrev dktX4_restore_1 : List UInt8 := dkwX4_restore_1 ++ dktX4_restore_2
def dkwX4_restore_0 : List UInt8 := [42, 3, 181, 0, 84, 42, 180, 1, 86, 154, 0, 9, 42, 4, 182, 0, 101, 172, 3, 60, 27, 17, 53, 107]
abbrev dktX4_restore_0 : List UInt8 := dkwX4_restore_0 ++ dktX4_restore_1
theorem dksX4_restore_0 : cX4_restore.data.toList.drop 0 = dktX4_restore_0 := by decide +kernel
theorem dksX4_restore_1 : cX4_restore.data.toList.drop 24 = dktX4_restore_1 := dk_seg dksX4_restore_0 24 rfl rfl
theorem dksX4_restore_2 : cX4_restore.data.toList.drop 47 = dktX4_restore_2 := dk_seg dksX4_restore_1 23 rfl rfl
theorem dX4_restore_0 : decode cX4_restore 0 = .ok (.aload_n 0, 1) := dk_42 (dk_at dksX4_restore_0 0 rfl rfl)
theorem dX4_restore_1 : decode cX4_restore 1 = .ok (.iconst 0, 1) := dk_3 (dk_at dksX4_restore_0 1 rfl rfl)
theorem dX4_restore_2 : decode cX4_restore 2 = .ok (.putfield 84, 3) := dk_181 0 84 (dk_at dksX4_restore_0 2 rfl rfl)
theorem dX4_restore_5 : decode cX4_restore 5 = .ok (.aload_n 0, 1) := dk_42 (dk_at dksX4_restore_0 5 rfl rfl)
theorem dX4_restore_6 : decode cX4_restore 6 = .ok (.getfield 342, 3) := dk_180 1 86 (dk_at dksX4_restore_0 6 rfl rfl)
theorem dX4_restore_9 : decode cX4_restore 9 = .ok (.ifCond .ne 9, 3) := dk_154 0 9 (dk_at dksX4_restore_0 9 rfl rfl)
theorem dX4_restore_12 : decode cX4_restore 12 = .ok (.aload_n 0, 1) := dk_42 (dk_at dksX4_restore_0 12 rfl rfl)
theorem dX4_restore_13 : decode cX4_restore 13 = .ok (.iconst 1, 1) := dk_4 (dk_at dksX4_restore_0 13 rfl rfl)
theorem dX4_restore_14 : decode cX4_restore 14 = .ok (.invokevirtual 101, 3) := dk_182 0 101 (dk_at dksX4_restore_0 14 rfl rfl)
theorem dX4_restore_17 : decode cX4_restore 17 = .ok (.ireturn, 1) := dk_172 (dk_at dksX4_restore_0 17 rfl rfl)
theorem dX4_restore_18 : decode cX4_restore 18 = .ok (.iconst 0, 1) := dk_3 (dk_at dksX4_restore_0 18 rfl rfl)
theorem dX4_restore_19 : decode cX4_restore 19 = .ok (.istore_n 1, 1) := dk_60 (dk_at dksX4_restore_0 19 rfl rfl)
theorem dX4_restore_20 : decode cX4_restore 20 = .ok (.iload_n 1, 1) := dk_27 (dk_at dksX4_restore_0 20 rfl rfl)
theorem dX4_restore_21 : decode cX4_restore 21 = .ok (.sipush 13675, 3) := dk_17 53 107 (dk_at dksX4_restore_0 21 rfl rfl)
theorem dX4_restore_24 : decode cX4_restore 24 = .ok (.if_icmp .ge 21, 3) := dk_162 0 21 (dk_at dksX4_restore_1 0 rfl rfl)
theorem dX4_restore_27 : decode cX4_restore 27 = .ok (.aload_n 0, 1) := dk_42 (dk_at dksX4_restore_1 3 rfl rfl)
theorem dX4_restore_28 : decode cX4_restore 28 = .ok (.getfield 7, 3) := dk_180 0 7 (dk_at dksX4_restore_1 4 rfl rfl)
theorem dX4_restore_31 : decode cX4_restore 31 = .ok (.iload_n 1, 1) := dk_27 (dk_at dksX4_restore_1 7 rfl rfl)
theorem dX4_restore_32 : decode cX4_restore 32 = .ok (.aload_n 0, 1) := dk_42 (dk_at dksX4_restore_1 8 rfl rfl)
theorem dX4_restore_33 : decode cX4_restore 33 = .ok (.getfield 16, 3) := dk_180 0 16 (dk_at dksX4_restore_1 9 rfl rfl)
theorem dX4_restore_36 : decode cX4_restore 36 = .ok (.iload_n 1, 1) := dk_27 (dk_at dksX4_restore_1 12 rfl rfl)
theorem dX4_restore_37 : decode cX4_restore 37 = .ok (.iaload, 1) := dk_46 (dk_at dksX4_restore_1 13 rfl rfl)
theorem dX4_restore_38 : decode cX4_restore 38 = .ok (.iastore, 1) := dk_79 (dk_at dksX4_restore_1 14 rfl rfl)
theorem dX4_restore_39 : decode cX4_restore 39 = .ok (.iinc 1 1, 3) := dk_132 1 1 (dk_at dksX4_restore_1 15 rfl rfl)
theorem dX4_restore_42 : decode cX4_restore 42 = .ok (.goto (-22), 3) := dk_167 255 234 (dk_at dksX4_restore_1 18 rfl rfl)
theorem dX4_restore_45 : decode cX4_restore 45 = .ok (.aload_n 0, 1) := dk_42 (dk_at dksX4_restore_1 21 rfl rfl)
theorem dX4_restore_46 : decode cX4_restore 46 = .ok (.iconst 0, 1) := dk_3 (dk_at dksX4_restore_1 22 rfl rfl)
theorem dX4_restore_47 : decode cX4_restore 47 = .ok (.putfield 87, 3) := dk_181 0 87 (dk_at dksX4_restore_2 0 rfl rfl)
theorem dX4_restore_50 : decode cX4_restore 50 = .ok (.aload_n 0, 1) := dk_42 (dk_at dksX4_restore_2 3 rfl rfl)
theorem dX4_restore_51 : decode cX4_restore 51 = .ok (.getfield 7, 3) := dk_180 0 7 (dk_at dksX4_restore_2 4 rfl rfl)
theorem dX4_restore_54 : decode cX4_restore 54 = .ok (.iconst 1, 1) := dk_4 (dk_at dksX4_restore_2 7 rfl rfl)
theorem dX4_restore_55 : decode cX4_restore 55 = .ok (.iaload, 1) := dk_46 (dk_at dksX4_restore_2 8 rfl rfl)
theorem dX4_restore_56 : decode cX4_restore 56 = .ok (.ireturn, 1) := dk_172 (dk_at dksX4_restore_2 9 rfl rfl)
theorem q108 : (Jvm.Cond.initialized "MatchmakerRulesModel") ∈ lw_all := lw_g (lw_at lw_m1 12 rfl) rfl
theorem q592 : (Jvm.Cond.selects "MatchmakerRulesModel" ({ cls := "java/lang/Object", name := "equals", desc := "(Ljava/lang/Object;)Z" } : Jvm.MethodName) ({ cls := "java/lang/Object", name := "equals", desc := "(Ljava/lang/Object;)Z" } : Jvm.MethodName)) ∈ lw_all := lw_g (lw_at lw_m3 16 rfl) rfl
theorem q950 : (Jvm.Cond.selects "MatchmakerRulesModel" ({ cls := "java/lang/Object", name := "getClass", desc := "()Ljava/lang/Class;" } : Jvm.MethodName) ({ cls := "java/lang/Object", name := "getClass", desc := "()Ljava/lang/Class;" } : Jvm.MethodName)) ∈ lw_all := lw_g (lw_at lw_m4 134 rfl) rfl
theorem q1978 : (Jvm.Cond.instantiable "MatchmakerRulesModel" (37 : Nat)) ∈ lw_all := lw_g (lw_at lw_m8 202 rfl) rfl
theorem q1980 : (Jvm.Cond.instanceMethod ({ cls := "MatchmakerRulesModel", name := "<init>", desc := "()V" } : Jvm.MethodName)) ∈ lw_all := lw_g (lw_at lw_m8 204 rfl) rfl
theorem q1981 : (Jvm.Cond.code ({ cls := "MatchmakerRulesModel", name := "<init>", desc := "()V" } : Jvm.MethodName) prog_14_method_1_code (1 : Nat) (Option.none : Option Jvm.ClassFile.FieldType)) ∈ lw_all := lw_g (lw_at lw_m8 205 rfl) rfl
theorem q1982 : (Jvm.Cond.methodLink "MatchmakerRulesModel" (1 : Nat) ({ cls := "java/lang/Object", name := "<init>", desc := "()V" } : Jvm.MethodName)) ∈ lw_all := lw_g (lw_at lw_m8 206 rfl) rfl
theorem q1983 : (Jvm.Cond.constant "MatchmakerRulesModel" (22 : Nat) (109400 : Int32)) ∈ lw_all := lw_g (lw_at lw_m8 207 rfl) rfl
theorem q1984 : (Jvm.Cond.constant "MatchmakerRulesModel" (32 : Nat) (60000 : Int32)) ∈ lw_all := lw_g (lw_at lw_m8 208 rfl) rfl
theorem q1985 : (Jvm.Cond.fieldLink "MatchmakerRulesModel" (84 : Nat) "MatchmakerRulesModel" "thrown" "I") ∈ lw_all := lw_g (lw_at lw_m8 209 rfl) rfl
theorem q1986 : (Jvm.Cond.fieldLink "MatchmakerRulesModel" (7 : Nat) "MatchmakerRulesModel" "s" "[I") ∈ lw_all := lw_g (lw_at lw_m8 210 rfl) rfl
theorem q1987 : (Jvm.Cond.fieldLink "MatchmakerRulesModel" (13 : Nat) "MatchmakerRulesModel" "frame" "[I") ∈ lw_all := lw_g (lw_at lw_m8 211 rfl) rfl
theorem q1988 : (Jvm.Cond.fieldLink "MatchmakerRulesModel" (16 : Nat) "MatchmakerRulesModel" "saved" "[I") ∈ lw_all := lw_g (lw_at lw_m8 212 rfl) rfl
theorem q1989 : (Jvm.Cond.fieldLink "MatchmakerRulesModel" (19 : Nat) "MatchmakerRulesModel" "thought" "[I") ∈ lw_all := lw_g (lw_at lw_m8 213 rfl) rfl
theorem q1990 : (Jvm.Cond.fieldLink "MatchmakerRulesModel" (23 : Nat) "MatchmakerRulesModel" "history" "[I") ∈ lw_all := lw_g (lw_at lw_m8 214 rfl) rfl
theorem q1991 : (Jvm.Cond.fieldLink "MatchmakerRulesModel" (87 : Nat) "MatchmakerRulesModel" "kept" "I") ∈ lw_all := lw_g (lw_at lw_m8 215 rfl) rfl
theorem q1992 : (Jvm.Cond.fieldLink "MatchmakerRulesModel" (342 : Nat) "MatchmakerRulesModel" "hasSaved" "Z") ∈ lw_all := lw_g (lw_at lw_m8 216 rfl) rfl
theorem q1993 : (Jvm.Cond.fieldLink "MatchmakerRulesModel" (26 : Nat) "MatchmakerRulesModel" "text" "[I") ∈ lw_all := lw_g (lw_at lw_m8 217 rfl) rfl
theorem q1994 : (Jvm.Cond.fieldLink "MatchmakerRulesModel" (29 : Nat) "MatchmakerRulesModel" "told" "[I") ∈ lw_all := lw_g (lw_at lw_m8 218 rfl) rfl
theorem q1995 : (Jvm.Cond.fieldLink "MatchmakerRulesModel" (33 : Nat) "MatchmakerRulesModel" "out" "[I") ∈ lw_all := lw_g (lw_at lw_m8 219 rfl) rfl
theorem q1996 : (Jvm.Cond.fieldLink "MatchmakerRulesModel" (36 : Nat) "MatchmakerRulesModel" "bound" "[I") ∈ lw_all := lw_g (lw_at lw_m8 220 rfl) rfl
theorem q1997 : (Jvm.Cond.fieldLink "MatchmakerRulesModel" (39 : Nat) "MatchmakerRulesModel" "ofRule" "[I") ∈ lw_all := lw_g (lw_at lw_m8 221 rfl) rfl
theorem q1998 : (Jvm.Cond.fieldLink "MatchmakerRulesModel" (42 : Nat) "MatchmakerRulesModel" "hasFired" "[Z") ∈ lw_all := lw_g (lw_at lw_m8 222 rfl) rfl
theorem q1999 : (Jvm.Cond.fieldLink "MatchmakerRulesModel" (46 : Nat) "MatchmakerRulesModel" "hasGround" "[Z") ∈ lw_all := lw_g (lw_at lw_m8 223 rfl) rfl
theorem q2000 : (Jvm.Cond.fieldLink "MatchmakerRulesModel" (49 : Nat) "MatchmakerRulesModel" "dueRule" "[I") ∈ lw_all := lw_g (lw_at lw_m8 224 rfl) rfl
theorem q2001 : (Jvm.Cond.fieldLink "MatchmakerRulesModel" (52 : Nat) "MatchmakerRulesModel" "dueFirst" "[I") ∈ lw_all := lw_g (lw_at lw_m8 225 rfl) rfl
theorem q2002 : (Jvm.Cond.fieldLink "MatchmakerRulesModel" (55 : Nat) "MatchmakerRulesModel" "dueSecond" "[I") ∈ lw_all := lw_g (lw_at lw_m8 226 rfl) rfl
theorem q2003 : (Jvm.Cond.fieldLink "MatchmakerRulesModel" (58 : Nat) "MatchmakerRulesModel" "deep" "[I") ∈ lw_all := lw_g (lw_at lw_m8 227 rfl) rfl
theorem q2004 : (Jvm.Cond.fieldLink "MatchmakerRulesModel" (61 : Nat) "MatchmakerRulesModel" "rowInts" "[I") ∈ lw_all := lw_g (lw_at lw_m8 228 rfl) rfl
theorem q2005 : (Jvm.Cond.fieldLink "MatchmakerRulesModel" (64 : Nat) "MatchmakerRulesModel" "rowSize" "[I") ∈ lw_all := lw_g (lw_at lw_m8 229 rfl) rfl
theorem q2006 : (Jvm.Cond.fieldLink "MatchmakerRulesModel" (67 : Nat) "MatchmakerRulesModel" "rowSort" "[I") ∈ lw_all := lw_g (lw_at lw_m8 230 rfl) rfl
theorem q2007 : (Jvm.Cond.fieldLink "MatchmakerRulesModel" (70 : Nat) "MatchmakerRulesModel" "rowFloats" "[F") ∈ lw_all := lw_g (lw_at lw_m8 231 rfl) rfl
theorem q2008 : (Jvm.Cond.fieldLink "MatchmakerRulesModel" (228 : Nat) "MatchmakerRulesModel" "length" "I") ∈ lw_all := lw_g (lw_at lw_m8 232 rfl) rfl
theorem q2009 : (Jvm.Cond.fieldLink "MatchmakerRulesModel" (276 : Nat) "MatchmakerRulesModel" "outLength" "I") ∈ lw_all := lw_g (lw_at lw_m8 233 rfl) rfl
theorem q2010 : (Jvm.Cond.fieldLink "MatchmakerRulesModel" (74 : Nat) "MatchmakerRulesModel" "faultAt" "I") ∈ lw_all := lw_g (lw_at lw_m8 234 rfl) rfl
theorem q2011 : (Jvm.Cond.fieldLink "MatchmakerRulesModel" (78 : Nat) "MatchmakerRulesModel" "itemAt" "I") ∈ lw_all := lw_g (lw_at lw_m8 235 rfl) rfl
theorem q2012 : (Jvm.Cond.fieldLink "MatchmakerRulesModel" (104 : Nat) "MatchmakerRulesModel" "reason" "I") ∈ lw_all := lw_g (lw_at lw_m8 236 rfl) rfl
theorem q2013 : (Jvm.Cond.fieldLink "MatchmakerRulesModel" (107 : Nat) "MatchmakerRulesModel" "detail" "I") ∈ lw_all := lw_g (lw_at lw_m8 237 rfl) rfl
theorem q2014 : (Jvm.Cond.fieldLink "MatchmakerRulesModel" (91 : Nat) "MatchmakerRulesModel" "about" "I") ∈ lw_all := lw_g (lw_at lw_m8 238 rfl) rfl
theorem q2015 : (Jvm.Cond.fieldLink "MatchmakerRulesModel" (94 : Nat) "MatchmakerRulesModel" "answer" "I") ∈ lw_all := lw_g (lw_at lw_m8 239 rfl) rfl
theorem q2016 : (Jvm.Cond.fieldLink "MatchmakerRulesModel" (178 : Nat) "MatchmakerRulesModel" "dues" "I") ∈ lw_all := lw_g (lw_at lw_m9 0 rfl) rfl
theorem q2017 : (Jvm.Cond.fieldLink "MatchmakerRulesModel" (225 : Nat) "MatchmakerRulesModel" "spot" "I") ∈ lw_all := lw_g (lw_at lw_m9 1 rfl) rfl
theorem q2018 : (Jvm.Cond.fieldLink "MatchmakerRulesModel" (231 : Nat) "MatchmakerRulesModel" "end" "I") ∈ lw_all := lw_g (lw_at lw_m9 2 rfl) rfl
theorem q2019 : (Jvm.Cond.fieldLink "MatchmakerRulesModel" (330 : Nat) "MatchmakerRulesModel" "items" "I") ∈ lw_all := lw_g (lw_at lw_m9 3 rfl) rfl
theorem q2020 : (Jvm.Cond.fieldLink "MatchmakerRulesModel" (234 : Nat) "MatchmakerRulesModel" "isWrong" "Z") ∈ lw_all := lw_g (lw_at lw_m9 4 rfl) rfl
theorem q2021 : (Jvm.Cond.fieldLink "MatchmakerRulesModel" (81 : Nat) "MatchmakerRulesModel" "isBound" "[Z") ∈ lw_all := lw_g (lw_at lw_m9 5 rfl) rfl
theorem q2022 : (Jvm.Cond.lays "MatchmakerRulesModel" "MatchmakerRulesModel" "thrown" "I") ∈ lw_all := lw_g (lw_at lw_m9 6 rfl) rfl
theorem q2023 : (Jvm.Cond.soleField "MatchmakerRulesModel" "thrown") ∈ lw_all := lw_g (lw_at lw_m9 7 rfl) rfl
theorem q2024 : (Jvm.Cond.laysFinal "MatchmakerRulesModel" "MatchmakerRulesModel" "s" "[I") ∈ lw_all := lw_g (lw_at lw_m9 8 rfl) rfl
theorem q2025 : (Jvm.Cond.soleField "MatchmakerRulesModel" "s") ∈ lw_all := lw_g (lw_at lw_m9 9 rfl) rfl
theorem q2026 : (Jvm.Cond.laysFinal "MatchmakerRulesModel" "MatchmakerRulesModel" "frame" "[I") ∈ lw_all := lw_g (lw_at lw_m9 10 rfl) rfl
theorem q2027 : (Jvm.Cond.soleField "MatchmakerRulesModel" "frame") ∈ lw_all := lw_g (lw_at lw_m9 11 rfl) rfl
theorem q2028 : (Jvm.Cond.laysFinal "MatchmakerRulesModel" "MatchmakerRulesModel" "saved" "[I") ∈ lw_all := lw_g (lw_at lw_m9 12 rfl) rfl
theorem q2029 : (Jvm.Cond.soleField "MatchmakerRulesModel" "saved") ∈ lw_all := lw_g (lw_at lw_m9 13 rfl) rfl
theorem q2030 : (Jvm.Cond.laysFinal "MatchmakerRulesModel" "MatchmakerRulesModel" "thought" "[I") ∈ lw_all := lw_g (lw_at lw_m9 14 rfl) rfl
theorem q2031 : (Jvm.Cond.soleField "MatchmakerRulesModel" "thought") ∈ lw_all := lw_g (lw_at lw_m9 15 rfl) rfl
theorem q2032 : (Jvm.Cond.laysFinal "MatchmakerRulesModel" "MatchmakerRulesModel" "history" "[I") ∈ lw_all := lw_g (lw_at lw_m9 16 rfl) rfl
theorem q2033 : (Jvm.Cond.soleField "MatchmakerRulesModel" "history") ∈ lw_all := lw_g (lw_at lw_m9 17 rfl) rfl
theorem q2034 : (Jvm.Cond.lays "MatchmakerRulesModel" "MatchmakerRulesModel" "kept" "I") ∈ lw_all := lw_g (lw_at lw_m9 18 rfl) rfl
theorem q2035 : (Jvm.Cond.soleField "MatchmakerRulesModel" "kept") ∈ lw_all := lw_g (lw_at lw_m9 19 rfl) rfl
theorem q2036 : (Jvm.Cond.lays "MatchmakerRulesModel" "MatchmakerRulesModel" "hasSaved" "Z") ∈ lw_all := lw_g (lw_at lw_m9 20 rfl) rfl
theorem q2037 : (Jvm.Cond.soleField "MatchmakerRulesModel" "hasSaved") ∈ lw_all := lw_g (lw_at lw_m9 21 rfl) rfl
theorem q2038 : (Jvm.Cond.laysFinal "MatchmakerRulesModel" "MatchmakerRulesModel" "text" "[I") ∈ lw_all := lw_g (lw_at lw_m9 22 rfl) rfl
theorem q2039 : (Jvm.Cond.soleField "MatchmakerRulesModel" "text") ∈ lw_all := lw_g (lw_at lw_m9 23 rfl) rfl
theorem q2040 : (Jvm.Cond.laysFinal "MatchmakerRulesModel" "MatchmakerRulesModel" "told" "[I") ∈ lw_all := lw_g (lw_at lw_m9 24 rfl) rfl
theorem q2041 : (Jvm.Cond.soleField "MatchmakerRulesModel" "told") ∈ lw_all := lw_g (lw_at lw_m9 25 rfl) rfl
theorem q2042 : (Jvm.Cond.laysFinal "MatchmakerRulesModel" "MatchmakerRulesModel" "out" "[I") ∈ lw_all := lw_g (lw_at lw_m9 26 rfl) rfl
theorem q2043 : (Jvm.Cond.soleField "MatchmakerRulesModel" "out") ∈ lw_all := lw_g (lw_at lw_m9 27 rfl) rfl
theorem q2044 : (Jvm.Cond.laysFinal "MatchmakerRulesModel" "MatchmakerRulesModel" "bound" "[I") ∈ lw_all := lw_g (lw_at lw_m9 28 rfl) rfl
theorem q2045 : (Jvm.Cond.soleField "MatchmakerRulesModel" "bound") ∈ lw_all := lw_g (lw_at lw_m9 29 rfl) rfl
theorem q2046 : (Jvm.Cond.laysFinal "MatchmakerRulesModel" "MatchmakerRulesModel" "ofRule" "[I") ∈ lw_all := lw_g (lw_at lw_m9 30 rfl) rfl
theorem q2047 : (Jvm.Cond.soleField "MatchmakerRulesModel" "ofRule") ∈ lw_all := lw_g (lw_at lw_m9 31 rfl) rfl
theorem q2048 : (Jvm.Cond.laysFinal "MatchmakerRulesModel" "MatchmakerRulesModel" "hasFired" "[Z") ∈ lw_all := lw_g (lw_at lw_m9 32 rfl) rfl
theorem q2049 : (Jvm.Cond.soleField "MatchmakerRulesModel" "hasFired") ∈ lw_all := lw_g (lw_at lw_m9 33 rfl) rfl
theorem q2050 : (Jvm.Cond.laysFinal "MatchmakerRulesModel" "MatchmakerRulesModel" "hasGround" "[Z") ∈ lw_all := lw_g (lw_at lw_m9 34 rfl) rfl
theorem q2051 : (Jvm.Cond.soleField "MatchmakerRulesModel" "hasGround") ∈ lw_all := lw_g (lw_at lw_m9 35 rfl) rfl
theorem q2052 : (Jvm.Cond.laysFinal "MatchmakerRulesModel" "MatchmakerRulesModel" "dueRule" "[I") ∈ lw_all := lw_g (lw_at lw_m9 36 rfl) rfl
theorem q2053 : (Jvm.Cond.soleField "MatchmakerRulesModel" "dueRule") ∈ lw_all := lw_g (lw_at lw_m9 37 rfl) rfl
theorem q2054 : (Jvm.Cond.laysFinal "MatchmakerRulesModel" "MatchmakerRulesModel" "dueFirst" "[I") ∈ lw_all := lw_g (lw_at lw_m9 38 rfl) rfl
theorem q2055 : (Jvm.Cond.soleField "MatchmakerRulesModel" "dueFirst") ∈ lw_all := lw_g (lw_at lw_m9 39 rfl) rfl
theorem q2056 : (Jvm.Cond.laysFinal "MatchmakerRulesModel" "MatchmakerRulesModel" "dueSecond" "[I") ∈ lw_all := lw_g (lw_at lw_m9 40 rfl) rfl
theorem q2057 : (Jvm.Cond.soleField "MatchmakerRulesModel" "dueSecond") ∈ lw_all := lw_g (lw_at lw_m9 41 rfl) rfl
theorem q2058 : (Jvm.Cond.laysFinal "MatchmakerRulesModel" "MatchmakerRulesModel" "deep" "[I") ∈ lw_all := lw_g (lw_at lw_m9 42 rfl) rfl
theorem q2059 : (Jvm.Cond.soleField "MatchmakerRulesModel" "deep") ∈ lw_all := lw_g (lw_at lw_m9 43 rfl) rfl
theorem q2060 : (Jvm.Cond.laysFinal "MatchmakerRulesModel" "MatchmakerRulesModel" "rowInts" "[I") ∈ lw_all := lw_g (lw_at lw_m9 44 rfl) rfl
theorem q2061 : (Jvm.Cond.soleField "MatchmakerRulesModel" "rowInts") ∈ lw_all := lw_g (lw_at lw_m9 45 rfl) rfl
theorem q2062 : (Jvm.Cond.laysFinal "MatchmakerRulesModel" "MatchmakerRulesModel" "rowSize" "[I") ∈ lw_all := lw_g (lw_at lw_m9 46 rfl) rfl
theorem q2063 : (Jvm.Cond.soleField "MatchmakerRulesModel" "rowSize") ∈ lw_all := lw_g (lw_at lw_m9 47 rfl) rfl
theorem q2064 : (Jvm.Cond.laysFinal "MatchmakerRulesModel" "MatchmakerRulesModel" "rowSort" "[I") ∈ lw_all := lw_g (lw_at lw_m9 48 rfl) rfl
theorem q2065 : (Jvm.Cond.soleField "MatchmakerRulesModel" "rowSort") ∈ lw_all := lw_g (lw_at lw_m9 49 rfl) rfl
theorem q2066 : (Jvm.Cond.laysFinal "MatchmakerRulesModel" "MatchmakerRulesModel" "rowFloats" "[F") ∈ lw_all := lw_g (lw_at lw_m9 50 rfl) rfl
theorem q2067 : (Jvm.Cond.soleField "MatchmakerRulesModel" "rowFloats") ∈ lw_all := lw_g (lw_at lw_m9 51 rfl) rfl
theorem q2068 : (Jvm.Cond.lays "MatchmakerRulesModel" "MatchmakerRulesModel" "length" "I") ∈ lw_all := lw_g (lw_at lw_m9 52 rfl) rfl
theorem q2069 : (Jvm.Cond.soleField "MatchmakerRulesModel" "length") ∈ lw_all := lw_g (lw_at lw_m9 53 rfl) rfl
theorem q2070 : (Jvm.Cond.lays "MatchmakerRulesModel" "MatchmakerRulesModel" "outLength" "I") ∈ lw_all := lw_g (lw_at lw_m9 54 rfl) rfl
theorem q2071 : (Jvm.Cond.soleField "MatchmakerRulesModel" "outLength") ∈ lw_all := lw_g (lw_at lw_m9 55 rfl) rfl
theorem q2072 : (Jvm.Cond.lays "MatchmakerRulesModel" "MatchmakerRulesModel" "faultAt" "I") ∈ lw_all := lw_g (lw_at lw_m9 56 rfl) rfl
theorem q2073 : (Jvm.Cond.soleField "MatchmakerRulesModel" "faultAt") ∈ lw_all := lw_g (lw_at lw_m9 57 rfl) rfl
theorem q2074 : (Jvm.Cond.lays "MatchmakerRulesModel" "MatchmakerRulesModel" "itemAt" "I") ∈ lw_all := lw_g (lw_at lw_m9 58 rfl) rfl
theorem q2075 : (Jvm.Cond.soleField "MatchmakerRulesModel" "itemAt") ∈ lw_all := lw_g (lw_at lw_m9 59 rfl) rfl
theorem q2076 : (Jvm.Cond.lays "MatchmakerRulesModel" "MatchmakerRulesModel" "reason" "I") ∈ lw_all := lw_g (lw_at lw_m9 60 rfl) rfl
theorem q2077 : (Jvm.Cond.soleField "MatchmakerRulesModel" "reason") ∈ lw_all := lw_g (lw_at lw_m9 61 rfl) rfl
theorem q2078 : (Jvm.Cond.lays "MatchmakerRulesModel" "MatchmakerRulesModel" "detail" "I") ∈ lw_all := lw_g (lw_at lw_m9 62 rfl) rfl
theorem q2079 : (Jvm.Cond.soleField "MatchmakerRulesModel" "detail") ∈ lw_all := lw_g (lw_at lw_m9 63 rfl) rfl
theorem q2080 : (Jvm.Cond.lays "MatchmakerRulesModel" "MatchmakerRulesModel" "about" "I") ∈ lw_all := lw_g (lw_at lw_m9 64 rfl) rfl
theorem q2081 : (Jvm.Cond.soleField "MatchmakerRulesModel" "about") ∈ lw_all := lw_g (lw_at lw_m9 65 rfl) rfl
theorem q2082 : (Jvm.Cond.lays "MatchmakerRulesModel" "MatchmakerRulesModel" "answer" "I") ∈ lw_all := lw_g (lw_at lw_m9 66 rfl) rfl
theorem q2083 : (Jvm.Cond.soleField "MatchmakerRulesModel" "answer") ∈ lw_all := lw_g (lw_at lw_m9 67 rfl) rfl
theorem q2084 : (Jvm.Cond.lays "MatchmakerRulesModel" "MatchmakerRulesModel" "dues" "I") ∈ lw_all := lw_g (lw_at lw_m9 68 rfl) rfl
theorem q2085 : (Jvm.Cond.soleField "MatchmakerRulesModel" "dues") ∈ lw_all := lw_g (lw_at lw_m9 69 rfl) rfl
theorem q2086 : (Jvm.Cond.lays "MatchmakerRulesModel" "MatchmakerRulesModel" "spot" "I") ∈ lw_all := lw_g (lw_at lw_m9 70 rfl) rfl
theorem q2087 : (Jvm.Cond.soleField "MatchmakerRulesModel" "spot") ∈ lw_all := lw_g (lw_at lw_m9 71 rfl) rfl
theorem q2088 : (Jvm.Cond.lays "MatchmakerRulesModel" "MatchmakerRulesModel" "end" "I") ∈ lw_all := lw_g (lw_at lw_m9 72 rfl) rfl
theorem q2089 : (Jvm.Cond.soleField "MatchmakerRulesModel" "end") ∈ lw_all := lw_g (lw_at lw_m9 73 rfl) rfl
theorem q2090 : (Jvm.Cond.lays "MatchmakerRulesModel" "MatchmakerRulesModel" "items" "I") ∈ lw_all := lw_g (lw_at lw_m9 74 rfl) rfl
theorem q2091 : (Jvm.Cond.soleField "MatchmakerRulesModel" "items") ∈ lw_all := lw_g (lw_at lw_m9 75 rfl) rfl
theorem q2092 : (Jvm.Cond.lays "MatchmakerRulesModel" "MatchmakerRulesModel" "isWrong" "Z") ∈ lw_all := lw_g (lw_at lw_m9 76 rfl) rfl
theorem q2093 : (Jvm.Cond.soleField "MatchmakerRulesModel" "isWrong") ∈ lw_all := lw_g (lw_at lw_m9 77 rfl) rfl
theorem q2094 : (Jvm.Cond.laysFinal "MatchmakerRulesModel" "MatchmakerRulesModel" "isBound" "[Z") ∈ lw_all := lw_g (lw_at lw_m9 78 rfl) rfl
theorem q2095 : (Jvm.Cond.soleField "MatchmakerRulesModel" "isBound") ∈ lw_all := lw_g (lw_at lw_m9 79 rfl) rfl
theorem q2096 : (Jvm.Cond.superclass "MatchmakerRulesModel" "java/lang/Object") ∈ lw_all := lw_g (lw_at lw_m9 80 rfl) rfl
theorem q2099 : (Jvm.Cond.instanceMethod ({ cls := "MatchmakerRulesModel", name := "thrown", desc := "()I" } : Jvm.MethodName)) ∈ lw_all := lw_g (lw_at lw_m9 83 rfl) rfl
theorem q2100 : (Jvm.Cond.selects "MatchmakerRulesModel" ({ cls := "MatchmakerRulesModel", name := "thrown", desc := "()I" } : Jvm.MethodName) ({ cls := "MatchmakerRulesModel", name := "thrown", desc := "()I" } : Jvm.MethodName)) ∈ lw_all := lw_g (lw_at lw_m9 84 rfl) rfl
theorem q2101 : (Jvm.Cond.code ({ cls := "MatchmakerRulesModel", name := "thrown", desc := "()I" } : Jvm.MethodName) prog_14_method_2_code (1 : Nat) (Option.some Jvm.ClassFile.FieldType.int)) ∈ lw_all := lw_g (lw_at lw_m9 85 rfl) rfl
theorem q2103 : (Jvm.Cond.instanceMethod ({ cls := "MatchmakerRulesModel", name := "clear", desc := "()I" } : Jvm.MethodName)) ∈ lw_all := lw_g (lw_at lw_m9 87 rfl) rfl
theorem q2104 : (Jvm.Cond.selects "MatchmakerRulesModel" ({ cls := "MatchmakerRulesModel", name := "clear", desc := "()I" } : Jvm.MethodName) ({ cls := "MatchmakerRulesModel", name := "clear", desc := "()I" } : Jvm.MethodName)) ∈ lw_all := lw_g (lw_at lw_m9 88 rfl) rfl
theorem q2105 : (Jvm.Cond.code ({ cls := "MatchmakerRulesModel", name := "clear", desc := "()I" } : Jvm.MethodName) prog_14_method_43_code (3 : Nat) (Option.some Jvm.ClassFile.FieldType.int)) ∈ lw_all := lw_g (lw_at lw_m9 89 rfl) rfl
theorem q2107 : (Jvm.Cond.instanceMethod ({ cls := "MatchmakerRulesModel", name := "rule", desc := "()I" } : Jvm.MethodName)) ∈ lw_all := lw_g (lw_at lw_m9 91 rfl) rfl
theorem q2108 : (Jvm.Cond.selects "MatchmakerRulesModel" ({ cls := "MatchmakerRulesModel", name := "rule", desc := "()I" } : Jvm.MethodName) ({ cls := "MatchmakerRulesModel", name := "rule", desc := "()I" } : Jvm.MethodName)) ∈ lw_all := lw_g (lw_at lw_m9 92 rfl) rfl
theorem q2109 : (Jvm.Cond.code ({ cls := "MatchmakerRulesModel", name := "rule", desc := "()I" } : Jvm.MethodName) prog_14_method_44_code (1 : Nat) (Option.some Jvm.ClassFile.FieldType.int)) ∈ lw_all := lw_g (lw_at lw_m9 93 rfl) rfl
theorem q2110 : (Jvm.Cond.methodLink "MatchmakerRulesModel" (222 : Nat) ({ cls := "MatchmakerRulesModel", name := "remembers", desc := "()V" } : Jvm.MethodName)) ∈ lw_all := lw_g (lw_at lw_m9 94 rfl) rfl
theorem q2111 : (Jvm.Cond.privateMethod ({ cls := "MatchmakerRulesModel", name := "remembers", desc := "()V" } : Jvm.MethodName)) ∈ lw_tbl := lw_at lw_m9 95 rfl
theorem q2112 : (Jvm.Cond.instanceMethod ({ cls := "MatchmakerRulesModel", name := "remembers", desc := "()V" } : Jvm.MethodName)) ∈ lw_all := lw_g (lw_at lw_m9 96 rfl) rfl
theorem q2113 : (Jvm.Cond.code ({ cls := "MatchmakerRulesModel", name := "remembers", desc := "()V" } : Jvm.MethodName) prog_14_method_5_code (2 : Nat) (Option.none : Option Jvm.ClassFile.FieldType)) ∈ lw_all := lw_g (lw_at lw_m9 97 rfl) rfl
theorem q2114 : (Jvm.Cond.methodLink "MatchmakerRulesModel" (238 : Nat) ({ cls := "MatchmakerRulesModel", name := "readsRule", desc := "()V" } : Jvm.MethodName)) ∈ lw_all := lw_g (lw_at lw_m9 98 rfl) rfl
theorem q2115 : (Jvm.Cond.privateMethod ({ cls := "MatchmakerRulesModel", name := "readsRule", desc := "()V" } : Jvm.MethodName)) ∈ lw_tbl := lw_at lw_m9 99 rfl
theorem q2116 : (Jvm.Cond.instanceMethod ({ cls := "MatchmakerRulesModel", name := "readsRule", desc := "()V" } : Jvm.MethodName)) ∈ lw_all := lw_g (lw_at lw_m9 100 rfl) rfl
theorem q2117 : (Jvm.Cond.code ({ cls := "MatchmakerRulesModel", name := "readsRule", desc := "()V" } : Jvm.MethodName) prog_14_method_93_code (2 : Nat) (Option.none : Option Jvm.ClassFile.FieldType)) ∈ lw_all := lw_g (lw_at lw_m9 101 rfl) rfl
theorem q2118 : (Jvm.Cond.methodLink "MatchmakerRulesModel" (320 : Nat) ({ cls := "MatchmakerRulesModel", name := "pattern", desc := "(IZ)V" } : Jvm.MethodName)) ∈ lw_all := lw_g (lw_at lw_m9 102 rfl) rfl
theorem q2119 : (Jvm.Cond.privateMethod ({ cls := "MatchmakerRulesModel", name := "pattern", desc := "(IZ)V" } : Jvm.MethodName)) ∈ lw_tbl := lw_at lw_m9 103 rfl
theorem q2120 : (Jvm.Cond.instanceMethod ({ cls := "MatchmakerRulesModel", name := "pattern", desc := "(IZ)V" } : Jvm.MethodName)) ∈ lw_all := lw_g (lw_at lw_m9 104 rfl) rfl
theorem q2121 : (Jvm.Cond.code ({ cls := "MatchmakerRulesModel", name := "pattern", desc := "(IZ)V" } : Jvm.MethodName) prog_14_method_92_code (3 : Nat) (Option.none : Option Jvm.ClassFile.FieldType)) ∈ lw_all := lw_g (lw_at lw_m9 105 rfl) rfl
theorem q2122 : (Jvm.Cond.methodLink "MatchmakerRulesModel" (313 : Nat) ({ cls := "MatchmakerRulesModel", name := "kind", desc := "()I" } : Jvm.MethodName)) ∈ lw_all := lw_g (lw_at lw_m9 106 rfl) rfl
theorem q2123 : (Jvm.Cond.privateMethod ({ cls := "MatchmakerRulesModel", name := "kind", desc := "()I" } : Jvm.MethodName)) ∈ lw_tbl := lw_at lw_m9 107 rfl
theorem q2124 : (Jvm.Cond.instanceMethod ({ cls := "MatchmakerRulesModel", name := "kind", desc := "()I" } : Jvm.MethodName)) ∈ lw_all := lw_g (lw_at lw_m9 108 rfl) rfl
theorem q2125 : (Jvm.Cond.code ({ cls := "MatchmakerRulesModel", name := "kind", desc := "()I" } : Jvm.MethodName) prog_14_method_90_code (1 : Nat) (Option.some Jvm.ClassFile.FieldType.int)) ∈ lw_all := lw_g (lw_at lw_m9 109 rfl) rfl
theorem q2126 : (Jvm.Cond.methodLink "MatchmakerRulesModel" (307 : Nat) ({ cls := "MatchmakerRulesModel", name := "here", desc := "()I" } : Jvm.MethodName)) ∈ lw_all := lw_g (lw_at lw_m9 110 rfl) rfl
theorem q2127 : (Jvm.Cond.privateMethod ({ cls := "MatchmakerRulesModel", name := "here", desc := "()I" } : Jvm.MethodName)) ∈ lw_tbl := lw_at lw_m9 111 rfl
theorem q2128 : (Jvm.Cond.instanceMethod ({ cls := "MatchmakerRulesModel", name := "here", desc := "()I" } : Jvm.MethodName)) ∈ lw_all := lw_g (lw_at lw_m9 112 rfl) rfl
theorem q2129 : (Jvm.Cond.code ({ cls := "MatchmakerRulesModel", name := "here", desc := "()I" } : Jvm.MethodName) prog_14_method_86_code (1 : Nat) (Option.some Jvm.ClassFile.FieldType.int)) ∈ lw_all := lw_g (lw_at lw_m9 113 rfl) rfl
theorem q2130 : (Jvm.Cond.methodLink "MatchmakerRulesModel" (209 : Nat) ({ cls := "MatchmakerRulesModel", name := "in", desc := "(III)Z" } : Jvm.MethodName)) ∈ lw_all := lw_g (lw_at lw_m9 114 rfl) rfl
theorem q2131 : (Jvm.Cond.static ({ cls := "MatchmakerRulesModel", name := "in", desc := "(III)Z" } : Jvm.MethodName)) ∈ lw_all := lw_g (lw_at lw_m9 115 rfl) rfl
theorem q2132 : (Jvm.Cond.code ({ cls := "MatchmakerRulesModel", name := "in", desc := "(III)Z" } : Jvm.MethodName) prog_14_method_4_code (3 : Nat) (Option.some Jvm.ClassFile.FieldType.boolean)) ∈ lw_all := lw_g (lw_at lw_m9 116 rfl) rfl
theorem q2133 : (Jvm.Cond.methodLink "MatchmakerRulesModel" (310 : Nat) ({ cls := "MatchmakerRulesModel", name := "takes", desc := "()I" } : Jvm.MethodName)) ∈ lw_all := lw_g (lw_at lw_m9 117 rfl) rfl
theorem q2134 : (Jvm.Cond.privateMethod ({ cls := "MatchmakerRulesModel", name := "takes", desc := "()I" } : Jvm.MethodName)) ∈ lw_tbl := lw_at lw_m9 118 rfl
theorem q2135 : (Jvm.Cond.instanceMethod ({ cls := "MatchmakerRulesModel", name := "takes", desc := "()I" } : Jvm.MethodName)) ∈ lw_all := lw_g (lw_at lw_m9 119 rfl) rfl
theorem q2136 : (Jvm.Cond.code ({ cls := "MatchmakerRulesModel", name := "takes", desc := "()I" } : Jvm.MethodName) prog_14_method_87_code (2 : Nat) (Option.some Jvm.ClassFile.FieldType.int)) ∈ lw_all := lw_g (lw_at lw_m9 120 rfl) rfl
theorem q2137 : (Jvm.Cond.methodLink "MatchmakerRulesModel" (316 : Nat) ({ cls := "MatchmakerRulesModel", name := "term", desc := "(Z)I" } : Jvm.MethodName)) ∈ lw_all := lw_g (lw_at lw_m9 121 rfl) rfl
theorem q2138 : (Jvm.Cond.privateMethod ({ cls := "MatchmakerRulesModel", name := "term", desc := "(Z)I" } : Jvm.MethodName)) ∈ lw_tbl := lw_at lw_m9 122 rfl
theorem q2139 : (Jvm.Cond.instanceMethod ({ cls := "MatchmakerRulesModel", name := "term", desc := "(Z)I" } : Jvm.MethodName)) ∈ lw_all := lw_g (lw_at lw_m9 123 rfl) rfl
theorem q2140 : (Jvm.Cond.code ({ cls := "MatchmakerRulesModel", name := "term", desc := "(Z)I" } : Jvm.MethodName) prog_14_method_91_code (4 : Nat) (Option.some Jvm.ClassFile.FieldType.int)) ∈ lw_all := lw_g (lw_at lw_m9 124 rfl) rfl
theorem q2141 : (Jvm.Cond.methodLink "MatchmakerRulesModel" (324 : Nat) ({ cls := "MatchmakerRulesModel", name := "must", desc := "(I)V" } : Jvm.MethodName)) ∈ lw_all := lw_g (lw_at lw_m9 125 rfl) rfl
theorem q2142 : (Jvm.Cond.privateMethod ({ cls := "MatchmakerRulesModel", name := "must", desc := "(I)V" } : Jvm.MethodName)) ∈ lw_tbl := lw_at lw_m9 126 rfl
theorem q2143 : (Jvm.Cond.instanceMethod ({ cls := "MatchmakerRulesModel", name := "must", desc := "(I)V" } : Jvm.MethodName)) ∈ lw_all := lw_g (lw_at lw_m9 127 rfl) rfl
theorem q2144 : (Jvm.Cond.code ({ cls := "MatchmakerRulesModel", name := "must", desc := "(I)V" } : Jvm.MethodName) prog_14_method_88_code (3 : Nat) (Option.none : Option Jvm.ClassFile.FieldType)) ∈ lw_all := lw_g (lw_at lw_m9 128 rfl) rfl
theorem q2145 : (Jvm.Cond.methodLink "MatchmakerRulesModel" (327 : Nat) ({ cls := "MatchmakerRulesModel", name := "number", desc := "(I)I" } : Jvm.MethodName)) ∈ lw_all := lw_g (lw_at lw_m9 129 rfl) rfl
theorem q2146 : (Jvm.Cond.privateMethod ({ cls := "MatchmakerRulesModel", name := "number", desc := "(I)I" } : Jvm.MethodName)) ∈ lw_tbl := lw_at lw_m9 130 rfl
theorem q2147 : (Jvm.Cond.instanceMethod ({ cls := "MatchmakerRulesModel", name := "number", desc := "(I)I" } : Jvm.MethodName)) ∈ lw_all := lw_g (lw_at lw_m9 131 rfl) rfl
theorem q2148 : (Jvm.Cond.code ({ cls := "MatchmakerRulesModel", name := "number", desc := "(I)I" } : Jvm.MethodName) prog_14_method_89_code (4 : Nat) (Option.some Jvm.ClassFile.FieldType.int)) ∈ lw_all := lw_g (lw_at lw_m9 132 rfl) rfl
theorem q2149 : (Jvm.Cond.methodLink "MatchmakerRulesModel" (101 : Nat) ({ cls := "MatchmakerRulesModel", name := "fails", desc := "(I)I" } : Jvm.MethodName)) ∈ lw_all := lw_g (lw_at lw_m9 133 rfl) rfl
theorem q2150 : (Jvm.Cond.privateMethod ({ cls := "MatchmakerRulesModel", name := "fails", desc := "(I)I" } : Jvm.MethodName)) ∈ lw_tbl := lw_at lw_m9 134 rfl
theorem q2151 : (Jvm.Cond.instanceMethod ({ cls := "MatchmakerRulesModel", name := "fails", desc := "(I)I" } : Jvm.MethodName)) ∈ lw_all := lw_g (lw_at lw_m9 135 rfl) rfl
theorem q2152 : (Jvm.Cond.code ({ cls := "MatchmakerRulesModel", name := "fails", desc := "(I)I" } : Jvm.MethodName) prog_14_method_3_code (2 : Nat) (Option.some Jvm.ClassFile.FieldType.int)) ∈ lw_all := lw_g (lw_at lw_m9 136 rfl) rfl
theorem q2153 : (Jvm.Cond.methodLink "MatchmakerRulesModel" (241 : Nat) ({ cls := "MatchmakerRulesModel", name := "addsRule", desc := "()I" } : Jvm.MethodName)) ∈ lw_all := lw_g (lw_at lw_m9 137 rfl) rfl
theorem q2154 : (Jvm.Cond.privateMethod ({ cls := "MatchmakerRulesModel", name := "addsRule", desc := "()I" } : Jvm.MethodName)) ∈ lw_tbl := lw_at lw_m9 138 rfl
theorem q2155 : (Jvm.Cond.instanceMethod ({ cls := "MatchmakerRulesModel", name := "addsRule", desc := "()I" } : Jvm.MethodName)) ∈ lw_all := lw_g (lw_at lw_m9 139 rfl) rfl
theorem q2156 : (Jvm.Cond.code ({ cls := "MatchmakerRulesModel", name := "addsRule", desc := "()I" } : Jvm.MethodName) prog_14_method_38_code (3 : Nat) (Option.some Jvm.ClassFile.FieldType.int)) ∈ lw_all := lw_g (lw_at lw_m9 140 rfl) rfl
theorem q2157 : (Jvm.Cond.methodLink "MatchmakerRulesModel" (203 : Nat) ({ cls := "MatchmakerRulesModel", name := "refused", desc := "(II)I" } : Jvm.MethodName)) ∈ lw_all := lw_g (lw_at lw_m9 141 rfl) rfl
theorem q2158 : (Jvm.Cond.privateMethod ({ cls := "MatchmakerRulesModel", name := "refused", desc := "(II)I" } : Jvm.MethodName)) ∈ lw_tbl := lw_at lw_m9 142 rfl
theorem q2159 : (Jvm.Cond.instanceMethod ({ cls := "MatchmakerRulesModel", name := "refused", desc := "(II)I" } : Jvm.MethodName)) ∈ lw_all := lw_g (lw_at lw_m9 143 rfl) rfl
theorem q2160 : (Jvm.Cond.code ({ cls := "MatchmakerRulesModel", name := "refused", desc := "(II)I" } : Jvm.MethodName) prog_14_method_7_code (3 : Nat) (Option.some Jvm.ClassFile.FieldType.int)) ∈ lw_all := lw_g (lw_at lw_m9 144 rfl) rfl
theorem q2161 : (Jvm.Cond.methodLink "MatchmakerRulesModel" (206 : Nat) ({ cls := "MatchmakerRulesModel", name := "done", desc := "(I)I" } : Jvm.MethodName)) ∈ lw_all := lw_g (lw_at lw_m9 145 rfl) rfl
theorem q2162 : (Jvm.Cond.privateMethod ({ cls := "MatchmakerRulesModel", name := "done", desc := "(I)I" } : Jvm.MethodName)) ∈ lw_tbl := lw_at lw_m9 146 rfl
theorem q2163 : (Jvm.Cond.instanceMethod ({ cls := "MatchmakerRulesModel", name := "done", desc := "(I)I" } : Jvm.MethodName)) ∈ lw_all := lw_g (lw_at lw_m9 147 rfl) rfl
theorem q2164 : (Jvm.Cond.code ({ cls := "MatchmakerRulesModel", name := "done", desc := "(I)I" } : Jvm.MethodName) prog_14_method_8_code (2 : Nat) (Option.some Jvm.ClassFile.FieldType.int)) ∈ lw_all := lw_g (lw_at lw_m9 148 rfl) rfl
theorem q2165 : (Jvm.Cond.methodLink "MatchmakerRulesModel" (244 : Nat) ({ cls := "MatchmakerRulesModel", name := "ends", desc := "(II)I" } : Jvm.MethodName)) ∈ lw_all := lw_g (lw_at lw_m9 149 rfl) rfl
theorem q2166 : (Jvm.Cond.privateMethod ({ cls := "MatchmakerRulesModel", name := "ends", desc := "(II)I" } : Jvm.MethodName)) ∈ lw_tbl := lw_at lw_m9 150 rfl
theorem q2167 : (Jvm.Cond.instanceMethod ({ cls := "MatchmakerRulesModel", name := "ends", desc := "(II)I" } : Jvm.MethodName)) ∈ lw_all := lw_g (lw_at lw_m9 151 rfl) rfl
theorem q2168 : (Jvm.Cond.code ({ cls := "MatchmakerRulesModel", name := "ends", desc := "(II)I" } : Jvm.MethodName) prog_14_method_9_code (3 : Nat) (Option.some Jvm.ClassFile.FieldType.int)) ∈ lw_all := lw_g (lw_at lw_m9 152 rfl) rfl
theorem q2169 : (Jvm.Cond.methodLink "MatchmakerRulesModel" (97 : Nat) ({ cls := "MatchmakerRulesModel", name := "changed", desc := "(I)I" } : Jvm.MethodName)) ∈ lw_all := lw_g (lw_at lw_m9 153 rfl) rfl
theorem q2170 : (Jvm.Cond.privateMethod ({ cls := "MatchmakerRulesModel", name := "changed", desc := "(I)I" } : Jvm.MethodName)) ∈ lw_tbl := lw_at lw_m9 154 rfl
theorem q2171 : (Jvm.Cond.instanceMethod ({ cls := "MatchmakerRulesModel", name := "changed", desc := "(I)I" } : Jvm.MethodName)) ∈ lw_all := lw_g (lw_at lw_m9 155 rfl) rfl
theorem q2172 : (Jvm.Cond.code ({ cls := "MatchmakerRulesModel", name := "changed", desc := "(I)I" } : Jvm.MethodName) prog_14_method_6_code (3 : Nat) (Option.some Jvm.ClassFile.FieldType.int)) ∈ lw_all := lw_g (lw_at lw_m9 156 rfl) rfl
theorem q2173 : (Jvm.Cond.constant "MatchmakerRulesModel" (90 : Nat) (95725 : Int32)) ∈ lw_all := lw_g (lw_at lw_m9 157 rfl) rfl
theorem q2175 : (Jvm.Cond.instanceMethod ({ cls := "MatchmakerRulesModel", name := "drop", desc := "(I)I" } : Jvm.MethodName)) ∈ lw_all := lw_g (lw_at lw_m9 159 rfl) rfl
theorem q2176 : (Jvm.Cond.selects "MatchmakerRulesModel" ({ cls := "MatchmakerRulesModel", name := "drop", desc := "(I)I" } : Jvm.MethodName) ({ cls := "MatchmakerRulesModel", name := "drop", desc := "(I)I" } : Jvm.MethodName)) ∈ lw_all := lw_g (lw_at lw_m9 160 rfl) rfl
theorem q2177 : (Jvm.Cond.code ({ cls := "MatchmakerRulesModel", name := "drop", desc := "(I)I" } : Jvm.MethodName) prog_14_method_45_code (2 : Nat) (Option.some Jvm.ClassFile.FieldType.int)) ∈ lw_all := lw_g (lw_at lw_m9 161 rfl) rfl
theorem q2178 : (Jvm.Cond.methodLink "MatchmakerRulesModel" (247 : Nat) ({ cls := "MatchmakerRulesModel", name := "drops", desc := "(I)I" } : Jvm.MethodName)) ∈ lw_all := lw_g (lw_at lw_m9 162 rfl) rfl
theorem q2179 : (Jvm.Cond.privateMethod ({ cls := "MatchmakerRulesModel", name := "drops", desc := "(I)I" } : Jvm.MethodName)) ∈ lw_tbl := lw_at lw_m9 163 rfl
theorem q2180 : (Jvm.Cond.instanceMethod ({ cls := "MatchmakerRulesModel", name := "drops", desc := "(I)I" } : Jvm.MethodName)) ∈ lw_all := lw_g (lw_at lw_m9 164 rfl) rfl
theorem q2181 : (Jvm.Cond.code ({ cls := "MatchmakerRulesModel", name := "drops", desc := "(I)I" } : Jvm.MethodName) prog_14_method_39_code (5 : Nat) (Option.some Jvm.ClassFile.FieldType.int)) ∈ lw_all := lw_g (lw_at lw_m9 165 rfl) rfl
theorem q2182 : (Jvm.Cond.methodLink "MatchmakerRulesModel" (120 : Nat) ({ cls := "MatchmakerRulesModel", name := "firing", desc := "(II)I" } : Jvm.MethodName)) ∈ lw_all := lw_g (lw_at lw_m9 166 rfl) rfl
theorem q2183 : (Jvm.Cond.privateMethod ({ cls := "MatchmakerRulesModel", name := "firing", desc := "(II)I" } : Jvm.MethodName)) ∈ lw_tbl := lw_at lw_m9 167 rfl
theorem q2184 : (Jvm.Cond.instanceMethod ({ cls := "MatchmakerRulesModel", name := "firing", desc := "(II)I" } : Jvm.MethodName)) ∈ lw_all := lw_g (lw_at lw_m9 168 rfl) rfl
theorem q2185 : (Jvm.Cond.code ({ cls := "MatchmakerRulesModel", name := "firing", desc := "(II)I" } : Jvm.MethodName) prog_14_method_14_code (3 : Nat) (Option.some Jvm.ClassFile.FieldType.int)) ∈ lw_all := lw_g (lw_at lw_m9 169 rfl) rfl
theorem q2186 : (Jvm.Cond.methodLink "MatchmakerRulesModel" (146 : Nat) ({ cls := "MatchmakerRulesModel", name := "movesFiring", desc := "(II)V" } : Jvm.MethodName)) ∈ lw_all := lw_g (lw_at lw_m9 170 rfl) rfl
theorem q2187 : (Jvm.Cond.privateMethod ({ cls := "MatchmakerRulesModel", name := "movesFiring", desc := "(II)V" } : Jvm.MethodName)) ∈ lw_tbl := lw_at lw_m9 171 rfl
theorem q2188 : (Jvm.Cond.instanceMethod ({ cls := "MatchmakerRulesModel", name := "movesFiring", desc := "(II)V" } : Jvm.MethodName)) ∈ lw_all := lw_g (lw_at lw_m9 172 rfl) rfl
theorem q2189 : (Jvm.Cond.code ({ cls := "MatchmakerRulesModel", name := "movesFiring", desc := "(II)V" } : Jvm.MethodName) prog_14_method_19_code (4 : Nat) (Option.none : Option Jvm.ClassFile.FieldType)) ∈ lw_all := lw_g (lw_at lw_m9 173 rfl) rfl
theorem q2190 : (Jvm.Cond.methodLink "MatchmakerRulesModel" (212 : Nat) ({ cls := "MatchmakerRulesModel", name := "cleans", desc := "()I" } : Jvm.MethodName)) ∈ lw_all := lw_g (lw_at lw_m9 174 rfl) rfl
theorem q2191 : (Jvm.Cond.privateMethod ({ cls := "MatchmakerRulesModel", name := "cleans", desc := "()I" } : Jvm.MethodName)) ∈ lw_tbl := lw_at lw_m9 175 rfl
theorem q2192 : (Jvm.Cond.instanceMethod ({ cls := "MatchmakerRulesModel", name := "cleans", desc := "()I" } : Jvm.MethodName)) ∈ lw_all := lw_g (lw_at lw_m9 176 rfl) rfl
theorem q2193 : (Jvm.Cond.code ({ cls := "MatchmakerRulesModel", name := "cleans", desc := "()I" } : Jvm.MethodName) prog_14_method_22_code (6 : Nat) (Option.some Jvm.ClassFile.FieldType.int)) ∈ lw_all := lw_g (lw_at lw_m9 177 rfl) rfl
theorem q2194 : (Jvm.Cond.methodLink "MatchmakerRulesModel" (135 : Nat) ({ cls := "MatchmakerRulesModel", name := "grounds", desc := "()I" } : Jvm.MethodName)) ∈ lw_all := lw_g (lw_at lw_m9 178 rfl) rfl
theorem q2195 : (Jvm.Cond.privateMethod ({ cls := "MatchmakerRulesModel", name := "grounds", desc := "()I" } : Jvm.MethodName)) ∈ lw_tbl := lw_at lw_m9 179 rfl
theorem q2196 : (Jvm.Cond.instanceMethod ({ cls := "MatchmakerRulesModel", name := "grounds", desc := "()I" } : Jvm.MethodName)) ∈ lw_all := lw_g (lw_at lw_m9 180 rfl) rfl
theorem q2197 : (Jvm.Cond.code ({ cls := "MatchmakerRulesModel", name := "grounds", desc := "()I" } : Jvm.MethodName) prog_14_method_18_code (4 : Nat) (Option.some Jvm.ClassFile.FieldType.int)) ∈ lw_all := lw_g (lw_at lw_m9 181 rfl) rfl
theorem q2198 : (Jvm.Cond.methodLink "MatchmakerRulesModel" (128 : Nat) ({ cls := "MatchmakerRulesModel", name := "slotOf", desc := "(I)I" } : Jvm.MethodName)) ∈ lw_all := lw_g (lw_at lw_m9 182 rfl) rfl
theorem q2199 : (Jvm.Cond.privateMethod ({ cls := "MatchmakerRulesModel", name := "slotOf", desc := "(I)I" } : Jvm.MethodName)) ∈ lw_tbl := lw_at lw_m9 183 rfl
theorem q2200 : (Jvm.Cond.instanceMethod ({ cls := "MatchmakerRulesModel", name := "slotOf", desc := "(I)I" } : Jvm.MethodName)) ∈ lw_all := lw_g (lw_at lw_m9 184 rfl) rfl
theorem q2201 : (Jvm.Cond.code ({ cls := "MatchmakerRulesModel", name := "slotOf", desc := "(I)I" } : Jvm.MethodName) prog_14_method_10_code (3 : Nat) (Option.some Jvm.ClassFile.FieldType.int)) ∈ lw_all := lw_g (lw_at lw_m9 185 rfl) rfl
theorem q2202 : (Jvm.Cond.methodLink "MatchmakerRulesModel" (131 : Nat) ({ cls := "MatchmakerRulesModel", name := "isGrounded", desc := "(I)Z" } : Jvm.MethodName)) ∈ lw_all := lw_g (lw_at lw_m9 186 rfl) rfl
theorem q2203 : (Jvm.Cond.privateMethod ({ cls := "MatchmakerRulesModel", name := "isGrounded", desc := "(I)Z" } : Jvm.MethodName)) ∈ lw_tbl := lw_at lw_m9 187 rfl
theorem q2204 : (Jvm.Cond.instanceMethod ({ cls := "MatchmakerRulesModel", name := "isGrounded", desc := "(I)Z" } : Jvm.MethodName)) ∈ lw_all := lw_g (lw_at lw_m9 188 rfl) rfl
theorem q2205 : (Jvm.Cond.code ({ cls := "MatchmakerRulesModel", name := "isGrounded", desc := "(I)Z" } : Jvm.MethodName) prog_14_method_17_code (2 : Nat) (Option.some Jvm.ClassFile.FieldType.boolean)) ∈ lw_all := lw_g (lw_at lw_m9 189 rfl) rfl
theorem q2206 : (Jvm.Cond.methodLink "MatchmakerRulesModel" (139 : Nat) ({ cls := "MatchmakerRulesModel", name := "movesFact", desc := "(II)V" } : Jvm.MethodName)) ∈ lw_all := lw_g (lw_at lw_m9 190 rfl) rfl
theorem q2207 : (Jvm.Cond.privateMethod ({ cls := "MatchmakerRulesModel", name := "movesFact", desc := "(II)V" } : Jvm.MethodName)) ∈ lw_tbl := lw_at lw_m9 191 rfl
theorem q2208 : (Jvm.Cond.instanceMethod ({ cls := "MatchmakerRulesModel", name := "movesFact", desc := "(II)V" } : Jvm.MethodName)) ∈ lw_all := lw_g (lw_at lw_m9 192 rfl) rfl
theorem q2209 : (Jvm.Cond.code ({ cls := "MatchmakerRulesModel", name := "movesFact", desc := "(II)V" } : Jvm.MethodName) prog_14_method_20_code (3 : Nat) (Option.none : Option Jvm.ClassFile.FieldType)) ∈ lw_all := lw_g (lw_at lw_m9 193 rfl) rfl
theorem q2210 : (Jvm.Cond.methodLink "MatchmakerRulesModel" (143 : Nat) ({ cls := "MatchmakerRulesModel", name := "isThere", desc := "(I)Z" } : Jvm.MethodName)) ∈ lw_all := lw_g (lw_at lw_m9 194 rfl) rfl
theorem q2211 : (Jvm.Cond.privateMethod ({ cls := "MatchmakerRulesModel", name := "isThere", desc := "(I)Z" } : Jvm.MethodName)) ∈ lw_tbl := lw_at lw_m9 195 rfl
theorem q2212 : (Jvm.Cond.instanceMethod ({ cls := "MatchmakerRulesModel", name := "isThere", desc := "(I)Z" } : Jvm.MethodName)) ∈ lw_all := lw_g (lw_at lw_m9 196 rfl) rfl
theorem q2213 : (Jvm.Cond.code ({ cls := "MatchmakerRulesModel", name := "isThere", desc := "(I)Z" } : Jvm.MethodName) prog_14_method_21_code (2 : Nat) (Option.some Jvm.ClassFile.FieldType.boolean)) ∈ lw_all := lw_g (lw_at lw_m9 197 rfl) rfl
theorem q2215 : (Jvm.Cond.instanceMethod ({ cls := "MatchmakerRulesModel", name := "tell", desc := "(CIII)I" } : Jvm.MethodName)) ∈ lw_all := lw_g (lw_at lw_m9 199 rfl) rfl
theorem q2216 : (Jvm.Cond.selects "MatchmakerRulesModel" ({ cls := "MatchmakerRulesModel", name := "tell", desc := "(CIII)I" } : Jvm.MethodName) ({ cls := "MatchmakerRulesModel", name := "tell", desc := "(CIII)I" } : Jvm.MethodName)) ∈ lw_all := lw_g (lw_at lw_m9 200 rfl) rfl
theorem q2217 : (Jvm.Cond.code ({ cls := "MatchmakerRulesModel", name := "tell", desc := "(CIII)I" } : Jvm.MethodName) prog_14_method_46_code (5 : Nat) (Option.some Jvm.ClassFile.FieldType.int)) ∈ lw_all := lw_g (lw_at lw_m9 201 rfl) rfl
theorem q2218 : (Jvm.Cond.methodLink "MatchmakerRulesModel" (250 : Nat) ({ cls := "MatchmakerRulesModel", name := "tells", desc := "(IIII)I" } : Jvm.MethodName)) ∈ lw_all := lw_g (lw_at lw_m9 202 rfl) rfl
theorem q2219 : (Jvm.Cond.privateMethod ({ cls := "MatchmakerRulesModel", name := "tells", desc := "(IIII)I" } : Jvm.MethodName)) ∈ lw_tbl := lw_at lw_m9 203 rfl
theorem q2220 : (Jvm.Cond.instanceMethod ({ cls := "MatchmakerRulesModel", name := "tells", desc := "(IIII)I" } : Jvm.MethodName)) ∈ lw_all := lw_g (lw_at lw_m9 204 rfl) rfl
theorem q2221 : (Jvm.Cond.code ({ cls := "MatchmakerRulesModel", name := "tells", desc := "(IIII)I" } : Jvm.MethodName) prog_14_method_40_code (6 : Nat) (Option.some Jvm.ClassFile.FieldType.int)) ∈ lw_all := lw_g (lw_at lw_m9 205 rfl) rfl
theorem q2222 : (Jvm.Cond.methodLink "MatchmakerRulesModel" (165 : Nat) ({ cls := "MatchmakerRulesModel", name := "slotOf3", desc := "(III)I" } : Jvm.MethodName)) ∈ lw_all := lw_g (lw_at lw_m9 206 rfl) rfl
theorem q2223 : (Jvm.Cond.privateMethod ({ cls := "MatchmakerRulesModel", name := "slotOf3", desc := "(III)I" } : Jvm.MethodName)) ∈ lw_tbl := lw_at lw_m9 207 rfl
theorem q2224 : (Jvm.Cond.instanceMethod ({ cls := "MatchmakerRulesModel", name := "slotOf3", desc := "(III)I" } : Jvm.MethodName)) ∈ lw_all := lw_g (lw_at lw_m9 208 rfl) rfl
theorem q2225 : (Jvm.Cond.code ({ cls := "MatchmakerRulesModel", name := "slotOf3", desc := "(III)I" } : Jvm.MethodName) prog_14_method_11_code (5 : Nat) (Option.some Jvm.ClassFile.FieldType.int)) ∈ lw_all := lw_g (lw_at lw_m9 209 rfl) rfl
theorem q2226 : (Jvm.Cond.constantFloat "MatchmakerRulesModel" (215 : Nat) (1120403456 : UInt32)) ∈ lw_all := lw_g (lw_at lw_m9 210 rfl) rfl
theorem q2227 : (Jvm.Cond.methodLink "MatchmakerRulesModel" (193 : Nat) ({ cls := "MatchmakerRulesModel", name := "comes", desc := "(IIIIF)I" } : Jvm.MethodName)) ∈ lw_all := lw_g (lw_at lw_m9 211 rfl) rfl
theorem q2228 : (Jvm.Cond.privateMethod ({ cls := "MatchmakerRulesModel", name := "comes", desc := "(IIIIF)I" } : Jvm.MethodName)) ∈ lw_tbl := lw_at lw_m9 212 rfl
theorem q2229 : (Jvm.Cond.instanceMethod ({ cls := "MatchmakerRulesModel", name := "comes", desc := "(IIIIF)I" } : Jvm.MethodName)) ∈ lw_all := lw_g (lw_at lw_m9 213 rfl) rfl
theorem q2230 : (Jvm.Cond.code ({ cls := "MatchmakerRulesModel", name := "comes", desc := "(IIIIF)I" } : Jvm.MethodName) prog_14_method_12_code (7 : Nat) (Option.some Jvm.ClassFile.FieldType.int)) ∈ lw_all := lw_g (lw_at lw_m9 214 rfl) rfl
theorem q2231 : (Jvm.Cond.methodLink "MatchmakerRulesModel" (110 : Nat) ({ cls := "java/lang/Float", name := "floatToIntBits", desc := "(F)I" } : Jvm.MethodName)) ∈ lw_all := lw_g (lw_at lw_m9 215 rfl) rfl
theorem q2233 : (Jvm.Cond.instanceMethod ({ cls := "MatchmakerRulesModel", name := "untell", desc := "(I)I" } : Jvm.MethodName)) ∈ lw_all := lw_g (lw_at lw_m9 217 rfl) rfl
theorem q2234 : (Jvm.Cond.selects "MatchmakerRulesModel" ({ cls := "MatchmakerRulesModel", name := "untell", desc := "(I)I" } : Jvm.MethodName) ({ cls := "MatchmakerRulesModel", name := "untell", desc := "(I)I" } : Jvm.MethodName)) ∈ lw_all := lw_g (lw_at lw_m9 218 rfl) rfl
theorem q2235 : (Jvm.Cond.code ({ cls := "MatchmakerRulesModel", name := "untell", desc := "(I)I" } : Jvm.MethodName) prog_14_method_47_code (2 : Nat) (Option.some Jvm.ClassFile.FieldType.int)) ∈ lw_all := lw_g (lw_at lw_m9 219 rfl) rfl
theorem q2236 : (Jvm.Cond.methodLink "MatchmakerRulesModel" (254 : Nat) ({ cls := "MatchmakerRulesModel", name := "untells", desc := "(I)I" } : Jvm.MethodName)) ∈ lw_all := lw_g (lw_at lw_m9 220 rfl) rfl
theorem q2237 : (Jvm.Cond.privateMethod ({ cls := "MatchmakerRulesModel", name := "untells", desc := "(I)I" } : Jvm.MethodName)) ∈ lw_tbl := lw_at lw_m9 221 rfl
theorem q2238 : (Jvm.Cond.instanceMethod ({ cls := "MatchmakerRulesModel", name := "untells", desc := "(I)I" } : Jvm.MethodName)) ∈ lw_all := lw_g (lw_at lw_m9 222 rfl) rfl
theorem q2239 : (Jvm.Cond.code ({ cls := "MatchmakerRulesModel", name := "untells", desc := "(I)I" } : Jvm.MethodName) prog_14_method_41_code (3 : Nat) (Option.some Jvm.ClassFile.FieldType.int)) ∈ lw_all := lw_g (lw_at lw_m9 223 rfl) rfl
theorem q2240 : (Jvm.Cond.methodLink "MatchmakerRulesModel" (216 : Nat) ({ cls := "MatchmakerRulesModel", name := "reasons", desc := "(I)I" } : Jvm.MethodName)) ∈ lw_all := lw_g (lw_at lw_m9 224 rfl) rfl
theorem q2241 : (Jvm.Cond.privateMethod ({ cls := "MatchmakerRulesModel", name := "reasons", desc := "(I)I" } : Jvm.MethodName)) ∈ lw_tbl := lw_at lw_m9 225 rfl
theorem q2242 : (Jvm.Cond.instanceMethod ({ cls := "MatchmakerRulesModel", name := "reasons", desc := "(I)I" } : Jvm.MethodName)) ∈ lw_all := lw_g (lw_at lw_m9 226 rfl) rfl
theorem q2243 : (Jvm.Cond.code ({ cls := "MatchmakerRulesModel", name := "reasons", desc := "(I)I" } : Jvm.MethodName) prog_14_method_16_code (4 : Nat) (Option.some Jvm.ClassFile.FieldType.int)) ∈ lw_all := lw_g (lw_at lw_m9 227 rfl) rfl
theorem q2244 : (Jvm.Cond.methodLink "MatchmakerRulesModel" (124 : Nat) ({ cls := "MatchmakerRulesModel", name := "isReasonOf", desc := "(II)Z" } : Jvm.MethodName)) ∈ lw_all := lw_g (lw_at lw_m9 228 rfl) rfl
theorem q2245 : (Jvm.Cond.privateMethod ({ cls := "MatchmakerRulesModel", name := "isReasonOf", desc := "(II)Z" } : Jvm.MethodName)) ∈ lw_tbl := lw_at lw_m9 229 rfl
theorem q2246 : (Jvm.Cond.instanceMethod ({ cls := "MatchmakerRulesModel", name := "isReasonOf", desc := "(II)Z" } : Jvm.MethodName)) ∈ lw_all := lw_g (lw_at lw_m9 230 rfl) rfl
theorem q2247 : (Jvm.Cond.code ({ cls := "MatchmakerRulesModel", name := "isReasonOf", desc := "(II)Z" } : Jvm.MethodName) prog_14_method_15_code (3 : Nat) (Option.some Jvm.ClassFile.FieldType.boolean)) ∈ lw_all := lw_g (lw_at lw_m9 231 rfl) rfl
theorem q2249 : (Jvm.Cond.instanceMethod ({ cls := "MatchmakerRulesModel", name := "find", desc := "(CII)I" } : Jvm.MethodName)) ∈ lw_all := lw_g (lw_at lw_m9 233 rfl) rfl
theorem q2250 : (Jvm.Cond.selects "MatchmakerRulesModel" ({ cls := "MatchmakerRulesModel", name := "find", desc := "(CII)I" } : Jvm.MethodName) ({ cls := "MatchmakerRulesModel", name := "find", desc := "(CII)I" } : Jvm.MethodName)) ∈ lw_all := lw_g (lw_at lw_m9 234 rfl) rfl
theorem q2251 : (Jvm.Cond.code ({ cls := "MatchmakerRulesModel", name := "find", desc := "(CII)I" } : Jvm.MethodName) prog_14_method_48_code (5 : Nat) (Option.some Jvm.ClassFile.FieldType.int)) ∈ lw_all := lw_g (lw_at lw_m9 235 rfl) rfl
theorem q2253 : (Jvm.Cond.instanceMethod ({ cls := "MatchmakerRulesModel", name := "factAt", desc := "(I)I" } : Jvm.MethodName)) ∈ lw_all := lw_g (lw_at lw_m9 237 rfl) rfl
theorem q2254 : (Jvm.Cond.selects "MatchmakerRulesModel" ({ cls := "MatchmakerRulesModel", name := "factAt", desc := "(I)I" } : Jvm.MethodName) ({ cls := "MatchmakerRulesModel", name := "factAt", desc := "(I)I" } : Jvm.MethodName)) ∈ lw_all := lw_g (lw_at lw_m9 238 rfl) rfl
theorem q2255 : (Jvm.Cond.code ({ cls := "MatchmakerRulesModel", name := "factAt", desc := "(I)I" } : Jvm.MethodName) prog_14_method_49_code (2 : Nat) (Option.some Jvm.ClassFile.FieldType.int)) ∈ lw_all := lw_g (lw_at lw_m9 239 rfl) rfl
theorem q2257 : (Jvm.Cond.instanceMethod ({ cls := "MatchmakerRulesModel", name := "factOf", desc := "(II)I" } : Jvm.MethodName)) ∈ lw_all := lw_g (lw_at lw_m10 1 rfl) rfl
theorem q2258 : (Jvm.Cond.selects "MatchmakerRulesModel" ({ cls := "MatchmakerRulesModel", name := "factOf", desc := "(II)I" } : Jvm.MethodName) ({ cls := "MatchmakerRulesModel", name := "factOf", desc := "(II)I" } : Jvm.MethodName)) ∈ lw_all := lw_g (lw_at lw_m10 2 rfl) rfl
theorem q2259 : (Jvm.Cond.code ({ cls := "MatchmakerRulesModel", name := "factOf", desc := "(II)I" } : Jvm.MethodName) prog_14_method_53_code (4 : Nat) (Option.some Jvm.ClassFile.FieldType.int)) ∈ lw_all := lw_g (lw_at lw_m10 3 rfl) rfl
theorem q2260 : (Jvm.Cond.methodLink "MatchmakerRulesModel" (261 : Nat) ({ cls := "MatchmakerRulesModel", name := "users", desc := "(I)I" } : Jvm.MethodName)) ∈ lw_all := lw_g (lw_at lw_m10 4 rfl) rfl
theorem q2261 : (Jvm.Cond.privateMethod ({ cls := "MatchmakerRulesModel", name := "users", desc := "(I)I" } : Jvm.MethodName)) ∈ lw_tbl := lw_at lw_m10 5 rfl
theorem q2262 : (Jvm.Cond.instanceMethod ({ cls := "MatchmakerRulesModel", name := "users", desc := "(I)I" } : Jvm.MethodName)) ∈ lw_all := lw_g (lw_at lw_m10 6 rfl) rfl
theorem q2263 : (Jvm.Cond.code ({ cls := "MatchmakerRulesModel", name := "users", desc := "(I)I" } : Jvm.MethodName) prog_14_method_50_code (4 : Nat) (Option.some Jvm.ClassFile.FieldType.int)) ∈ lw_all := lw_g (lw_at lw_m10 7 rfl) rfl
theorem q2264 : (Jvm.Cond.methodLink "MatchmakerRulesModel" (264 : Nat) ({ cls := "MatchmakerRulesModel", name := "measures", desc := "()V" } : Jvm.MethodName)) ∈ lw_all := lw_g (lw_at lw_m10 8 rfl) rfl
theorem q2265 : (Jvm.Cond.privateMethod ({ cls := "MatchmakerRulesModel", name := "measures", desc := "()V" } : Jvm.MethodName)) ∈ lw_tbl := lw_at lw_m10 9 rfl
theorem q2266 : (Jvm.Cond.instanceMethod ({ cls := "MatchmakerRulesModel", name := "measures", desc := "()V" } : Jvm.MethodName)) ∈ lw_all := lw_g (lw_at lw_m10 10 rfl) rfl
theorem q2267 : (Jvm.Cond.code ({ cls := "MatchmakerRulesModel", name := "measures", desc := "()V" } : Jvm.MethodName) prog_14_method_52_code (7 : Nat) (Option.none : Option Jvm.ClassFile.FieldType)) ∈ lw_all := lw_g (lw_at lw_m10 11 rfl) rfl
theorem q2268 : (Jvm.Cond.constant "MatchmakerRulesModel" (257 : Nat) (1000000 : Int32)) ∈ lw_all := lw_g (lw_at lw_m10 12 rfl) rfl
theorem q2269 : (Jvm.Cond.methodLink "MatchmakerRulesModel" (258 : Nat) ({ cls := "MatchmakerRulesModel", name := "depthOf", desc := "(I)I" } : Jvm.MethodName)) ∈ lw_all := lw_g (lw_at lw_m10 13 rfl) rfl
theorem q2270 : (Jvm.Cond.privateMethod ({ cls := "MatchmakerRulesModel", name := "depthOf", desc := "(I)I" } : Jvm.MethodName)) ∈ lw_tbl := lw_at lw_m10 14 rfl
theorem q2271 : (Jvm.Cond.instanceMethod ({ cls := "MatchmakerRulesModel", name := "depthOf", desc := "(I)I" } : Jvm.MethodName)) ∈ lw_all := lw_g (lw_at lw_m10 15 rfl) rfl
theorem q2272 : (Jvm.Cond.code ({ cls := "MatchmakerRulesModel", name := "depthOf", desc := "(I)I" } : Jvm.MethodName) prog_14_method_51_code (2 : Nat) (Option.some Jvm.ClassFile.FieldType.int)) ∈ lw_all := lw_g (lw_at lw_m10 16 rfl) rfl
theorem q2274 : (Jvm.Cond.instanceMethod ({ cls := "MatchmakerRulesModel", name := "trust", desc := "(I)F" } : Jvm.MethodName)) ∈ lw_all := lw_g (lw_at lw_m10 18 rfl) rfl
theorem q2275 : (Jvm.Cond.selects "MatchmakerRulesModel" ({ cls := "MatchmakerRulesModel", name := "trust", desc := "(I)F" } : Jvm.MethodName) ({ cls := "MatchmakerRulesModel", name := "trust", desc := "(I)F" } : Jvm.MethodName)) ∈ lw_all := lw_g (lw_at lw_m10 19 rfl) rfl
theorem q2276 : (Jvm.Cond.code ({ cls := "MatchmakerRulesModel", name := "trust", desc := "(I)F" } : Jvm.MethodName) prog_14_method_54_code (3 : Nat) (Option.some Jvm.ClassFile.FieldType.float)) ∈ lw_all := lw_g (lw_at lw_m10 20 rfl) rfl
theorem q2277 : (Jvm.Cond.methodLink "MatchmakerRulesModel" (190 : Nat) ({ cls := "MatchmakerRulesModel", name := "trustIn", desc := "(I)F" } : Jvm.MethodName)) ∈ lw_all := lw_g (lw_at lw_m10 21 rfl) rfl
theorem q2278 : (Jvm.Cond.privateMethod ({ cls := "MatchmakerRulesModel", name := "trustIn", desc := "(I)F" } : Jvm.MethodName)) ∈ lw_tbl := lw_at lw_m10 22 rfl
theorem q2279 : (Jvm.Cond.instanceMethod ({ cls := "MatchmakerRulesModel", name := "trustIn", desc := "(I)F" } : Jvm.MethodName)) ∈ lw_all := lw_g (lw_at lw_m10 23 rfl) rfl
theorem q2280 : (Jvm.Cond.code ({ cls := "MatchmakerRulesModel", name := "trustIn", desc := "(I)F" } : Jvm.MethodName) prog_14_method_13_code (2 : Nat) (Option.some Jvm.ClassFile.FieldType.float)) ∈ lw_all := lw_g (lw_at lw_m10 24 rfl) rfl
theorem q2281 : (Jvm.Cond.methodLink "MatchmakerRulesModel" (116 : Nat) ({ cls := "java/lang/Float", name := "intBitsToFloat", desc := "(I)F" } : Jvm.MethodName)) ∈ lw_all := lw_g (lw_at lw_m10 25 rfl) rfl
theorem q2285 : (Jvm.Cond.instanceMethod ({ cls := "MatchmakerRulesModel", name := "trustBits", desc := "(I)I" } : Jvm.MethodName)) ∈ lw_all := lw_g (lw_at lw_m10 29 rfl) rfl
theorem q2286 : (Jvm.Cond.selects "MatchmakerRulesModel" ({ cls := "MatchmakerRulesModel", name := "trustBits", desc := "(I)I" } : Jvm.MethodName) ({ cls := "MatchmakerRulesModel", name := "trustBits", desc := "(I)I" } : Jvm.MethodName)) ∈ lw_all := lw_g (lw_at lw_m10 30 rfl) rfl
theorem q2287 : (Jvm.Cond.code ({ cls := "MatchmakerRulesModel", name := "trustBits", desc := "(I)I" } : Jvm.MethodName) prog_14_method_55_code (3 : Nat) (Option.some Jvm.ClassFile.FieldType.int)) ∈ lw_all := lw_g (lw_at lw_m10 31 rfl) rfl
theorem q2289 : (Jvm.Cond.instanceMethod ({ cls := "MatchmakerRulesModel", name := "trusted", desc := "(I)I" } : Jvm.MethodName)) ∈ lw_all := lw_g (lw_at lw_m10 33 rfl) rfl
theorem q2290 : (Jvm.Cond.selects "MatchmakerRulesModel" ({ cls := "MatchmakerRulesModel", name := "trusted", desc := "(I)I" } : Jvm.MethodName) ({ cls := "MatchmakerRulesModel", name := "trusted", desc := "(I)I" } : Jvm.MethodName)) ∈ lw_all := lw_g (lw_at lw_m10 34 rfl) rfl
theorem q2291 : (Jvm.Cond.code ({ cls := "MatchmakerRulesModel", name := "trusted", desc := "(I)I" } : Jvm.MethodName) prog_14_method_56_code (5 : Nat) (Option.some Jvm.ClassFile.FieldType.int)) ∈ lw_all := lw_g (lw_at lw_m10 35 rfl) rfl
theorem q2293 : (Jvm.Cond.instanceMethod ({ cls := "MatchmakerRulesModel", name := "due", desc := "(Z)I" } : Jvm.MethodName)) ∈ lw_all := lw_g (lw_at lw_m10 37 rfl) rfl
theorem q2294 : (Jvm.Cond.selects "MatchmakerRulesModel" ({ cls := "MatchmakerRulesModel", name := "due", desc := "(Z)I" } : Jvm.MethodName) ({ cls := "MatchmakerRulesModel", name := "due", desc := "(Z)I" } : Jvm.MethodName)) ∈ lw_all := lw_g (lw_at lw_m10 38 rfl) rfl
theorem q2295 : (Jvm.Cond.code ({ cls := "MatchmakerRulesModel", name := "due", desc := "(Z)I" } : Jvm.MethodName) prog_14_method_57_code (2 : Nat) (Option.some Jvm.ClassFile.FieldType.int)) ∈ lw_all := lw_g (lw_at lw_m10 39 rfl) rfl
theorem q2296 : (Jvm.Cond.methodLink "MatchmakerRulesModel" (197 : Nat) ({ cls := "MatchmakerRulesModel", name := "looks", desc := "()V" } : Jvm.MethodName)) ∈ lw_all := lw_g (lw_at lw_m10 40 rfl) rfl
theorem q2297 : (Jvm.Cond.privateMethod ({ cls := "MatchmakerRulesModel", name := "looks", desc := "()V" } : Jvm.MethodName)) ∈ lw_tbl := lw_at lw_m10 41 rfl
theorem q2298 : (Jvm.Cond.instanceMethod ({ cls := "MatchmakerRulesModel", name := "looks", desc := "()V" } : Jvm.MethodName)) ∈ lw_all := lw_g (lw_at lw_m10 42 rfl) rfl
theorem q2299 : (Jvm.Cond.code ({ cls := "MatchmakerRulesModel", name := "looks", desc := "()V" } : Jvm.MethodName) prog_14_method_32_code (4 : Nat) (Option.none : Option Jvm.ClassFile.FieldType)) ∈ lw_all := lw_g (lw_at lw_m10 43 rfl) rfl
theorem q2300 : (Jvm.Cond.methodLink "MatchmakerRulesModel" (175 : Nat) ({ cls := "MatchmakerRulesModel", name := "marksFired", desc := "()V" } : Jvm.MethodName)) ∈ lw_all := lw_g (lw_at lw_m10 44 rfl) rfl
theorem q2301 : (Jvm.Cond.privateMethod ({ cls := "MatchmakerRulesModel", name := "marksFired", desc := "()V" } : Jvm.MethodName)) ∈ lw_tbl := lw_at lw_m10 45 rfl
theorem q2302 : (Jvm.Cond.instanceMethod ({ cls := "MatchmakerRulesModel", name := "marksFired", desc := "()V" } : Jvm.MethodName)) ∈ lw_all := lw_g (lw_at lw_m10 46 rfl) rfl
theorem q2303 : (Jvm.Cond.code ({ cls := "MatchmakerRulesModel", name := "marksFired", desc := "()V" } : Jvm.MethodName) prog_14_method_30_code (2 : Nat) (Option.none : Option Jvm.ClassFile.FieldType)) ∈ lw_all := lw_g (lw_at lw_m10 47 rfl) rfl
theorem q2304 : (Jvm.Cond.methodLink "MatchmakerRulesModel" (169 : Nat) ({ cls := "MatchmakerRulesModel", name := "mark", desc := "(III)I" } : Jvm.MethodName)) ∈ lw_all := lw_g (lw_at lw_m10 48 rfl) rfl
theorem q2305 : (Jvm.Cond.static ({ cls := "MatchmakerRulesModel", name := "mark", desc := "(III)I" } : Jvm.MethodName)) ∈ lw_all := lw_g (lw_at lw_m10 49 rfl) rfl
theorem q2306 : (Jvm.Cond.code ({ cls := "MatchmakerRulesModel", name := "mark", desc := "(III)I" } : Jvm.MethodName) prog_14_method_29_code (3 : Nat) (Option.some Jvm.ClassFile.FieldType.int)) ∈ lw_all := lw_g (lw_at lw_m10 50 rfl) rfl
theorem q2307 : (Jvm.Cond.methodLink "MatchmakerRulesModel" (172 : Nat) ({ cls := "MatchmakerRulesModel", name := "isMatch", desc := "(III)Z" } : Jvm.MethodName)) ∈ lw_all := lw_g (lw_at lw_m10 51 rfl) rfl
theorem q2308 : (Jvm.Cond.privateMethod ({ cls := "MatchmakerRulesModel", name := "isMatch", desc := "(III)Z" } : Jvm.MethodName)) ∈ lw_tbl := lw_at lw_m10 52 rfl
theorem q2309 : (Jvm.Cond.instanceMethod ({ cls := "MatchmakerRulesModel", name := "isMatch", desc := "(III)Z" } : Jvm.MethodName)) ∈ lw_all := lw_g (lw_at lw_m10 53 rfl) rfl
theorem q2310 : (Jvm.Cond.code ({ cls := "MatchmakerRulesModel", name := "isMatch", desc := "(III)Z" } : Jvm.MethodName) prog_14_method_28_code (5 : Nat) (Option.some Jvm.ClassFile.FieldType.boolean)) ∈ lw_all := lw_g (lw_at lw_m10 54 rfl) rfl
theorem q2311 : (Jvm.Cond.methodLink "MatchmakerRulesModel" (155 : Nat) ({ cls := "MatchmakerRulesModel", name := "unbinds", desc := "()V" } : Jvm.MethodName)) ∈ lw_all := lw_g (lw_at lw_m10 55 rfl) rfl
theorem q2312 : (Jvm.Cond.privateMethod ({ cls := "MatchmakerRulesModel", name := "unbinds", desc := "()V" } : Jvm.MethodName)) ∈ lw_tbl := lw_at lw_m10 56 rfl
theorem q2313 : (Jvm.Cond.instanceMethod ({ cls := "MatchmakerRulesModel", name := "unbinds", desc := "()V" } : Jvm.MethodName)) ∈ lw_all := lw_g (lw_at lw_m10 57 rfl) rfl
theorem q2314 : (Jvm.Cond.code ({ cls := "MatchmakerRulesModel", name := "unbinds", desc := "()V" } : Jvm.MethodName) prog_14_method_27_code (1 : Nat) (Option.none : Option Jvm.ClassFile.FieldType)) ∈ lw_all := lw_g (lw_at lw_m10 58 rfl) rfl
theorem q2315 : (Jvm.Cond.methodLink "MatchmakerRulesModel" (158 : Nat) ({ cls := "MatchmakerRulesModel", name := "fitsPattern", desc := "(III)Z" } : Jvm.MethodName)) ∈ lw_all := lw_g (lw_at lw_m10 59 rfl) rfl
theorem q2316 : (Jvm.Cond.privateMethod ({ cls := "MatchmakerRulesModel", name := "fitsPattern", desc := "(III)Z" } : Jvm.MethodName)) ∈ lw_tbl := lw_at lw_m10 60 rfl
theorem q2317 : (Jvm.Cond.instanceMethod ({ cls := "MatchmakerRulesModel", name := "fitsPattern", desc := "(III)Z" } : Jvm.MethodName)) ∈ lw_all := lw_g (lw_at lw_m10 61 rfl) rfl
theorem q2318 : (Jvm.Cond.code ({ cls := "MatchmakerRulesModel", name := "fitsPattern", desc := "(III)Z" } : Jvm.MethodName) prog_14_method_25_code (4 : Nat) (Option.some Jvm.ClassFile.FieldType.boolean)) ∈ lw_all := lw_g (lw_at lw_m10 62 rfl) rfl
theorem q2319 : (Jvm.Cond.methodLink "MatchmakerRulesModel" (149 : Nat) ({ cls := "MatchmakerRulesModel", name := "of", desc := "(II)I" } : Jvm.MethodName)) ∈ lw_all := lw_g (lw_at lw_m10 63 rfl) rfl
theorem q2320 : (Jvm.Cond.privateMethod ({ cls := "MatchmakerRulesModel", name := "of", desc := "(II)I" } : Jvm.MethodName)) ∈ lw_tbl := lw_at lw_m10 64 rfl
theorem q2321 : (Jvm.Cond.instanceMethod ({ cls := "MatchmakerRulesModel", name := "of", desc := "(II)I" } : Jvm.MethodName)) ∈ lw_all := lw_g (lw_at lw_m10 65 rfl) rfl
theorem q2322 : (Jvm.Cond.code ({ cls := "MatchmakerRulesModel", name := "of", desc := "(II)I" } : Jvm.MethodName) prog_14_method_23_code (3 : Nat) (Option.some Jvm.ClassFile.FieldType.int)) ∈ lw_all := lw_g (lw_at lw_m10 66 rfl) rfl
theorem q2323 : (Jvm.Cond.methodLink "MatchmakerRulesModel" (152 : Nat) ({ cls := "MatchmakerRulesModel", name := "fits", desc := "(II)Z" } : Jvm.MethodName)) ∈ lw_all := lw_g (lw_at lw_m10 67 rfl) rfl
theorem q2324 : (Jvm.Cond.privateMethod ({ cls := "MatchmakerRulesModel", name := "fits", desc := "(II)Z" } : Jvm.MethodName)) ∈ lw_tbl := lw_at lw_m10 68 rfl
theorem q2325 : (Jvm.Cond.instanceMethod ({ cls := "MatchmakerRulesModel", name := "fits", desc := "(II)Z" } : Jvm.MethodName)) ∈ lw_all := lw_g (lw_at lw_m10 69 rfl) rfl
theorem q2326 : (Jvm.Cond.code ({ cls := "MatchmakerRulesModel", name := "fits", desc := "(II)Z" } : Jvm.MethodName) prog_14_method_24_code (4 : Nat) (Option.some Jvm.ClassFile.FieldType.boolean)) ∈ lw_all := lw_g (lw_at lw_m10 70 rfl) rfl
theorem q2327 : (Jvm.Cond.methodLink "MatchmakerRulesModel" (162 : Nat) ({ cls := "MatchmakerRulesModel", name := "person", desc := "(I)I" } : Jvm.MethodName)) ∈ lw_all := lw_g (lw_at lw_m10 71 rfl) rfl
theorem q2328 : (Jvm.Cond.privateMethod ({ cls := "MatchmakerRulesModel", name := "person", desc := "(I)I" } : Jvm.MethodName)) ∈ lw_tbl := lw_at lw_m10 72 rfl
theorem q2329 : (Jvm.Cond.instanceMethod ({ cls := "MatchmakerRulesModel", name := "person", desc := "(I)I" } : Jvm.MethodName)) ∈ lw_all := lw_g (lw_at lw_m10 73 rfl) rfl
theorem q2330 : (Jvm.Cond.code ({ cls := "MatchmakerRulesModel", name := "person", desc := "(I)I" } : Jvm.MethodName) prog_14_method_26_code (2 : Nat) (Option.some Jvm.ClassFile.FieldType.int)) ∈ lw_all := lw_g (lw_at lw_m10 74 rfl) rfl
theorem q2332 : (Jvm.Cond.instanceMethod ({ cls := "MatchmakerRulesModel", name := "agenda", desc := "(II)I" } : Jvm.MethodName)) ∈ lw_all := lw_g (lw_at lw_m10 76 rfl) rfl
theorem q2333 : (Jvm.Cond.selects "MatchmakerRulesModel" ({ cls := "MatchmakerRulesModel", name := "agenda", desc := "(II)I" } : Jvm.MethodName) ({ cls := "MatchmakerRulesModel", name := "agenda", desc := "(II)I" } : Jvm.MethodName)) ∈ lw_all := lw_g (lw_at lw_m10 77 rfl) rfl
theorem q2334 : (Jvm.Cond.code ({ cls := "MatchmakerRulesModel", name := "agenda", desc := "(II)I" } : Jvm.MethodName) prog_14_method_58_code (5 : Nat) (Option.some Jvm.ClassFile.FieldType.int)) ∈ lw_all := lw_g (lw_at lw_m10 78 rfl) rfl
theorem q2335 : (Jvm.Cond.methodLink "MatchmakerRulesModel" (187 : Nat) ({ cls := "MatchmakerRulesModel", name := "behind", desc := "(I)I" } : Jvm.MethodName)) ∈ lw_all := lw_g (lw_at lw_m10 79 rfl) rfl
theorem q2336 : (Jvm.Cond.privateMethod ({ cls := "MatchmakerRulesModel", name := "behind", desc := "(I)I" } : Jvm.MethodName)) ∈ lw_tbl := lw_at lw_m10 80 rfl
theorem q2337 : (Jvm.Cond.instanceMethod ({ cls := "MatchmakerRulesModel", name := "behind", desc := "(I)I" } : Jvm.MethodName)) ∈ lw_all := lw_g (lw_at lw_m10 81 rfl) rfl
theorem q2338 : (Jvm.Cond.code ({ cls := "MatchmakerRulesModel", name := "behind", desc := "(I)I" } : Jvm.MethodName) prog_14_method_35_code (4 : Nat) (Option.some Jvm.ClassFile.FieldType.int)) ∈ lw_all := lw_g (lw_at lw_m10 82 rfl) rfl
theorem q2339 : (Jvm.Cond.methodLink "MatchmakerRulesModel" (184 : Nat) ({ cls := "MatchmakerRulesModel", name := "isAhead", desc := "(II)Z" } : Jvm.MethodName)) ∈ lw_all := lw_g (lw_at lw_m10 83 rfl) rfl
theorem q2340 : (Jvm.Cond.privateMethod ({ cls := "MatchmakerRulesModel", name := "isAhead", desc := "(II)Z" } : Jvm.MethodName)) ∈ lw_tbl := lw_at lw_m10 84 rfl
theorem q2341 : (Jvm.Cond.instanceMethod ({ cls := "MatchmakerRulesModel", name := "isAhead", desc := "(II)Z" } : Jvm.MethodName)) ∈ lw_all := lw_g (lw_at lw_m10 85 rfl) rfl
theorem q2342 : (Jvm.Cond.code ({ cls := "MatchmakerRulesModel", name := "isAhead", desc := "(II)Z" } : Jvm.MethodName) prog_14_method_34_code (4 : Nat) (Option.some Jvm.ClassFile.FieldType.boolean)) ∈ lw_all := lw_g (lw_at lw_m10 86 rfl) rfl
theorem q2343 : (Jvm.Cond.methodLink "MatchmakerRulesModel" (181 : Nat) ({ cls := "MatchmakerRulesModel", name := "newest", desc := "(I)I" } : Jvm.MethodName)) ∈ lw_all := lw_g (lw_at lw_m10 87 rfl) rfl
theorem q2344 : (Jvm.Cond.privateMethod ({ cls := "MatchmakerRulesModel", name := "newest", desc := "(I)I" } : Jvm.MethodName)) ∈ lw_tbl := lw_at lw_m10 88 rfl
theorem q2345 : (Jvm.Cond.instanceMethod ({ cls := "MatchmakerRulesModel", name := "newest", desc := "(I)I" } : Jvm.MethodName)) ∈ lw_all := lw_g (lw_at lw_m10 89 rfl) rfl
theorem q2346 : (Jvm.Cond.code ({ cls := "MatchmakerRulesModel", name := "newest", desc := "(I)I" } : Jvm.MethodName) prog_14_method_33_code (2 : Nat) (Option.some Jvm.ClassFile.FieldType.int)) ∈ lw_all := lw_g (lw_at lw_m10 90 rfl) rfl
theorem q2348 : (Jvm.Cond.instanceMethod ({ cls := "MatchmakerRulesModel", name := "matches", desc := "(I)I" } : Jvm.MethodName)) ∈ lw_all := lw_g (lw_at lw_m10 92 rfl) rfl
theorem q2349 : (Jvm.Cond.selects "MatchmakerRulesModel" ({ cls := "MatchmakerRulesModel", name := "matches", desc := "(I)I" } : Jvm.MethodName) ({ cls := "MatchmakerRulesModel", name := "matches", desc := "(I)I" } : Jvm.MethodName)) ∈ lw_all := lw_g (lw_at lw_m10 93 rfl) rfl
theorem q2350 : (Jvm.Cond.code ({ cls := "MatchmakerRulesModel", name := "matches", desc := "(I)I" } : Jvm.MethodName) prog_14_method_59_code (2 : Nat) (Option.some Jvm.ClassFile.FieldType.int)) ∈ lw_all := lw_g (lw_at lw_m10 94 rfl) rfl
theorem q2351 : (Jvm.Cond.methodLink "MatchmakerRulesModel" (267 : Nat) ({ cls := "MatchmakerRulesModel", name := "matchesOf", desc := "(I)I" } : Jvm.MethodName)) ∈ lw_all := lw_g (lw_at lw_m10 95 rfl) rfl
theorem q2352 : (Jvm.Cond.privateMethod ({ cls := "MatchmakerRulesModel", name := "matchesOf", desc := "(I)I" } : Jvm.MethodName)) ∈ lw_tbl := lw_at lw_m10 96 rfl
theorem q2353 : (Jvm.Cond.instanceMethod ({ cls := "MatchmakerRulesModel", name := "matchesOf", desc := "(I)I" } : Jvm.MethodName)) ∈ lw_all := lw_g (lw_at lw_m10 97 rfl) rfl
theorem q2354 : (Jvm.Cond.code ({ cls := "MatchmakerRulesModel", name := "matchesOf", desc := "(I)I" } : Jvm.MethodName) prog_14_method_31_code (5 : Nat) (Option.some Jvm.ClassFile.FieldType.int)) ∈ lw_all := lw_g (lw_at lw_m10 98 rfl) rfl
theorem q2356 : (Jvm.Cond.instanceMethod ({ cls := "MatchmakerRulesModel", name := "fire", desc := "()I" } : Jvm.MethodName)) ∈ lw_all := lw_g (lw_at lw_m10 100 rfl) rfl
theorem q2357 : (Jvm.Cond.selects "MatchmakerRulesModel" ({ cls := "MatchmakerRulesModel", name := "fire", desc := "()I" } : Jvm.MethodName) ({ cls := "MatchmakerRulesModel", name := "fire", desc := "()I" } : Jvm.MethodName)) ∈ lw_all := lw_g (lw_at lw_m10 101 rfl) rfl
theorem q2358 : (Jvm.Cond.code ({ cls := "MatchmakerRulesModel", name := "fire", desc := "()I" } : Jvm.MethodName) prog_14_method_60_code (1 : Nat) (Option.some Jvm.ClassFile.FieldType.int)) ∈ lw_all := lw_g (lw_at lw_m10 102 rfl) rfl
theorem q2359 : (Jvm.Cond.methodLink "MatchmakerRulesModel" (200 : Nat) ({ cls := "MatchmakerRulesModel", name := "firesFirst", desc := "()I" } : Jvm.MethodName)) ∈ lw_all := lw_g (lw_at lw_m10 103 rfl) rfl
theorem q2360 : (Jvm.Cond.privateMethod ({ cls := "MatchmakerRulesModel", name := "firesFirst", desc := "()I" } : Jvm.MethodName)) ∈ lw_tbl := lw_at lw_m10 104 rfl
theorem q2361 : (Jvm.Cond.instanceMethod ({ cls := "MatchmakerRulesModel", name := "firesFirst", desc := "()I" } : Jvm.MethodName)) ∈ lw_all := lw_g (lw_at lw_m10 105 rfl) rfl
theorem q2362 : (Jvm.Cond.code ({ cls := "MatchmakerRulesModel", name := "firesFirst", desc := "()I" } : Jvm.MethodName) prog_14_method_36_code (13 : Nat) (Option.some Jvm.ClassFile.FieldType.int)) ∈ lw_all := lw_g (lw_at lw_m10 106 rfl) rfl
theorem q2364 : (Jvm.Cond.instanceMethod ({ cls := "MatchmakerRulesModel", name := "run", desc := "(I)I" } : Jvm.MethodName)) ∈ lw_all := lw_g (lw_at lw_m10 108 rfl) rfl
theorem q2365 : (Jvm.Cond.selects "MatchmakerRulesModel" ({ cls := "MatchmakerRulesModel", name := "run", desc := "(I)I" } : Jvm.MethodName) ({ cls := "MatchmakerRulesModel", name := "run", desc := "(I)I" } : Jvm.MethodName)) ∈ lw_all := lw_g (lw_at lw_m10 109 rfl) rfl
theorem q2366 : (Jvm.Cond.code ({ cls := "MatchmakerRulesModel", name := "run", desc := "(I)I" } : Jvm.MethodName) prog_14_method_61_code (2 : Nat) (Option.some Jvm.ClassFile.FieldType.int)) ∈ lw_all := lw_g (lw_at lw_m10 110 rfl) rfl
theorem q2367 : (Jvm.Cond.methodLink "MatchmakerRulesModel" (270 : Nat) ({ cls := "MatchmakerRulesModel", name := "runs", desc := "(I)I" } : Jvm.MethodName)) ∈ lw_all := lw_g (lw_at lw_m10 111 rfl) rfl
theorem q2368 : (Jvm.Cond.privateMethod ({ cls := "MatchmakerRulesModel", name := "runs", desc := "(I)I" } : Jvm.MethodName)) ∈ lw_tbl := lw_at lw_m10 112 rfl
theorem q2369 : (Jvm.Cond.instanceMethod ({ cls := "MatchmakerRulesModel", name := "runs", desc := "(I)I" } : Jvm.MethodName)) ∈ lw_all := lw_g (lw_at lw_m10 113 rfl) rfl
theorem q2370 : (Jvm.Cond.code ({ cls := "MatchmakerRulesModel", name := "runs", desc := "(I)I" } : Jvm.MethodName) prog_14_method_42_code (2 : Nat) (Option.some Jvm.ClassFile.FieldType.int)) ∈ lw_all := lw_g (lw_at lw_m10 114 rfl) rfl
theorem q2371 : (Jvm.Cond.methodLink "MatchmakerRulesModel" (219 : Nat) ({ cls := "MatchmakerRulesModel", name := "firesOften", desc := "(I)I" } : Jvm.MethodName)) ∈ lw_all := lw_g (lw_at lw_m10 115 rfl) rfl
theorem q2372 : (Jvm.Cond.privateMethod ({ cls := "MatchmakerRulesModel", name := "firesOften", desc := "(I)I" } : Jvm.MethodName)) ∈ lw_tbl := lw_at lw_m10 116 rfl
theorem q2373 : (Jvm.Cond.instanceMethod ({ cls := "MatchmakerRulesModel", name := "firesOften", desc := "(I)I" } : Jvm.MethodName)) ∈ lw_all := lw_g (lw_at lw_m10 117 rfl) rfl
theorem q2374 : (Jvm.Cond.code ({ cls := "MatchmakerRulesModel", name := "firesOften", desc := "(I)I" } : Jvm.MethodName) prog_14_method_37_code (4 : Nat) (Option.some Jvm.ClassFile.FieldType.int)) ∈ lw_all := lw_g (lw_at lw_m10 118 rfl) rfl
theorem q2376 : (Jvm.Cond.instanceMethod ({ cls := "MatchmakerRulesModel", name := "quietIn", desc := "()I" } : Jvm.MethodName)) ∈ lw_all := lw_g (lw_at lw_m10 120 rfl) rfl
theorem q2377 : (Jvm.Cond.selects "MatchmakerRulesModel" ({ cls := "MatchmakerRulesModel", name := "quietIn", desc := "()I" } : Jvm.MethodName) ({ cls := "MatchmakerRulesModel", name := "quietIn", desc := "()I" } : Jvm.MethodName)) ∈ lw_all := lw_g (lw_at lw_m10 121 rfl) rfl
theorem q2378 : (Jvm.Cond.code ({ cls := "MatchmakerRulesModel", name := "quietIn", desc := "()I" } : Jvm.MethodName) prog_14_method_62_code (4 : Nat) (Option.some Jvm.ClassFile.FieldType.int)) ∈ lw_all := lw_g (lw_at lw_m10 122 rfl) rfl
theorem q2380 : (Jvm.Cond.instanceMethod ({ cls := "MatchmakerRulesModel", name := "why", desc := "(III)I" } : Jvm.MethodName)) ∈ lw_all := lw_g (lw_at lw_m10 124 rfl) rfl
theorem q2381 : (Jvm.Cond.selects "MatchmakerRulesModel" ({ cls := "MatchmakerRulesModel", name := "why", desc := "(III)I" } : Jvm.MethodName) ({ cls := "MatchmakerRulesModel", name := "why", desc := "(III)I" } : Jvm.MethodName)) ∈ lw_all := lw_g (lw_at lw_m10 125 rfl) rfl
theorem q2382 : (Jvm.Cond.code ({ cls := "MatchmakerRulesModel", name := "why", desc := "(III)I" } : Jvm.MethodName) prog_14_method_63_code (6 : Nat) (Option.some Jvm.ClassFile.FieldType.int)) ∈ lw_all := lw_g (lw_at lw_m10 126 rfl) rfl
theorem q2384 : (Jvm.Cond.instanceMethod ({ cls := "MatchmakerRulesModel", name := "wouldGo", desc := "(I)I" } : Jvm.MethodName)) ∈ lw_all := lw_g (lw_at lw_m10 128 rfl) rfl
theorem q2385 : (Jvm.Cond.selects "MatchmakerRulesModel" ({ cls := "MatchmakerRulesModel", name := "wouldGo", desc := "(I)I" } : Jvm.MethodName) ({ cls := "MatchmakerRulesModel", name := "wouldGo", desc := "(I)I" } : Jvm.MethodName)) ∈ lw_all := lw_g (lw_at lw_m10 129 rfl) rfl
theorem q2386 : (Jvm.Cond.code ({ cls := "MatchmakerRulesModel", name := "wouldGo", desc := "(I)I" } : Jvm.MethodName) prog_14_method_64_code (4 : Nat) (Option.some Jvm.ClassFile.FieldType.int)) ∈ lw_all := lw_g (lw_at lw_m10 130 rfl) rfl
theorem q2388 : (Jvm.Cond.instanceMethod ({ cls := "MatchmakerRulesModel", name := "isInOrder", desc := "()Z" } : Jvm.MethodName)) ∈ lw_all := lw_g (lw_at lw_m10 132 rfl) rfl
theorem q2389 : (Jvm.Cond.selects "MatchmakerRulesModel" ({ cls := "MatchmakerRulesModel", name := "isInOrder", desc := "()Z" } : Jvm.MethodName) ({ cls := "MatchmakerRulesModel", name := "isInOrder", desc := "()Z" } : Jvm.MethodName)) ∈ lw_all := lw_g (lw_at lw_m10 133 rfl) rfl
theorem q2390 : (Jvm.Cond.code ({ cls := "MatchmakerRulesModel", name := "isInOrder", desc := "()Z" } : Jvm.MethodName) prog_14_method_66_code (2 : Nat) (Option.some Jvm.ClassFile.FieldType.boolean)) ∈ lw_all := lw_g (lw_at lw_m10 134 rfl) rfl
theorem q2391 : (Jvm.Cond.methodLink "MatchmakerRulesModel" (273 : Nat) ({ cls := "MatchmakerRulesModel", name := "isTwice", desc := "(I)Z" } : Jvm.MethodName)) ∈ lw_all := lw_g (lw_at lw_m10 135 rfl) rfl
theorem q2392 : (Jvm.Cond.privateMethod ({ cls := "MatchmakerRulesModel", name := "isTwice", desc := "(I)Z" } : Jvm.MethodName)) ∈ lw_tbl := lw_at lw_m10 136 rfl
theorem q2393 : (Jvm.Cond.instanceMethod ({ cls := "MatchmakerRulesModel", name := "isTwice", desc := "(I)Z" } : Jvm.MethodName)) ∈ lw_all := lw_g (lw_at lw_m10 137 rfl) rfl
theorem q2394 : (Jvm.Cond.code ({ cls := "MatchmakerRulesModel", name := "isTwice", desc := "(I)Z" } : Jvm.MethodName) prog_14_method_65_code (3 : Nat) (Option.some Jvm.ClassFile.FieldType.boolean)) ∈ lw_all := lw_g (lw_at lw_m10 138 rfl) rfl
theorem q2396 : (Jvm.Cond.instanceMethod ({ cls := "MatchmakerRulesModel", name := "line", desc := "(I)I" } : Jvm.MethodName)) ∈ lw_all := lw_g (lw_at lw_m10 140 rfl) rfl
theorem q2397 : (Jvm.Cond.selects "MatchmakerRulesModel" ({ cls := "MatchmakerRulesModel", name := "line", desc := "(I)I" } : Jvm.MethodName) ({ cls := "MatchmakerRulesModel", name := "line", desc := "(I)I" } : Jvm.MethodName)) ∈ lw_all := lw_g (lw_at lw_m10 141 rfl) rfl
theorem q2398 : (Jvm.Cond.code ({ cls := "MatchmakerRulesModel", name := "line", desc := "(I)I" } : Jvm.MethodName) prog_14_method_71_code (2 : Nat) (Option.some Jvm.ClassFile.FieldType.int)) ∈ lw_all := lw_g (lw_at lw_m10 142 rfl) rfl
theorem q2399 : (Jvm.Cond.methodLink "MatchmakerRulesModel" (286 : Nat) ({ cls := "MatchmakerRulesModel", name := "writesPattern", desc := "(II)V" } : Jvm.MethodName)) ∈ lw_all := lw_g (lw_at lw_m10 143 rfl) rfl
theorem q2400 : (Jvm.Cond.privateMethod ({ cls := "MatchmakerRulesModel", name := "writesPattern", desc := "(II)V" } : Jvm.MethodName)) ∈ lw_tbl := lw_at lw_m10 144 rfl
theorem q2401 : (Jvm.Cond.instanceMethod ({ cls := "MatchmakerRulesModel", name := "writesPattern", desc := "(II)V" } : Jvm.MethodName)) ∈ lw_all := lw_g (lw_at lw_m10 145 rfl) rfl
theorem q2402 : (Jvm.Cond.code ({ cls := "MatchmakerRulesModel", name := "writesPattern", desc := "(II)V" } : Jvm.MethodName) prog_14_method_70_code (3 : Nat) (Option.none : Option Jvm.ClassFile.FieldType)) ∈ lw_all := lw_g (lw_at lw_m10 146 rfl) rfl
theorem q2403 : (Jvm.Cond.methodLink "MatchmakerRulesModel" (279 : Nat) ({ cls := "MatchmakerRulesModel", name := "writes", desc := "(I)V" } : Jvm.MethodName)) ∈ lw_all := lw_g (lw_at lw_m10 147 rfl) rfl
theorem q2404 : (Jvm.Cond.privateMethod ({ cls := "MatchmakerRulesModel", name := "writes", desc := "(I)V" } : Jvm.MethodName)) ∈ lw_tbl := lw_at lw_m10 148 rfl
theorem q2405 : (Jvm.Cond.instanceMethod ({ cls := "MatchmakerRulesModel", name := "writes", desc := "(I)V" } : Jvm.MethodName)) ∈ lw_all := lw_g (lw_at lw_m10 149 rfl) rfl
theorem q2406 : (Jvm.Cond.code ({ cls := "MatchmakerRulesModel", name := "writes", desc := "(I)V" } : Jvm.MethodName) prog_14_method_67_code (2 : Nat) (Option.none : Option Jvm.ClassFile.FieldType)) ∈ lw_all := lw_g (lw_at lw_m10 150 rfl) rfl
theorem q2407 : (Jvm.Cond.methodLink "MatchmakerRulesModel" (283 : Nat) ({ cls := "MatchmakerRulesModel", name := "writesTerm", desc := "(I)V" } : Jvm.MethodName)) ∈ lw_all := lw_g (lw_at lw_m10 151 rfl) rfl
theorem q2408 : (Jvm.Cond.privateMethod ({ cls := "MatchmakerRulesModel", name := "writesTerm", desc := "(I)V" } : Jvm.MethodName)) ∈ lw_tbl := lw_at lw_m10 152 rfl
theorem q2409 : (Jvm.Cond.instanceMethod ({ cls := "MatchmakerRulesModel", name := "writesTerm", desc := "(I)V" } : Jvm.MethodName)) ∈ lw_all := lw_g (lw_at lw_m10 153 rfl) rfl
theorem q2410 : (Jvm.Cond.code ({ cls := "MatchmakerRulesModel", name := "writesTerm", desc := "(I)V" } : Jvm.MethodName) prog_14_method_69_code (2 : Nat) (Option.none : Option Jvm.ClassFile.FieldType)) ∈ lw_all := lw_g (lw_at lw_m10 154 rfl) rfl
theorem q2412 : (Jvm.Cond.instanceMethod ({ cls := "MatchmakerRulesModel", name := "factLine", desc := "(I)I" } : Jvm.MethodName)) ∈ lw_all := lw_g (lw_at lw_m10 156 rfl) rfl
theorem q2413 : (Jvm.Cond.selects "MatchmakerRulesModel" ({ cls := "MatchmakerRulesModel", name := "factLine", desc := "(I)I" } : Jvm.MethodName) ({ cls := "MatchmakerRulesModel", name := "factLine", desc := "(I)I" } : Jvm.MethodName)) ∈ lw_all := lw_g (lw_at lw_m10 157 rfl) rfl
theorem q2414 : (Jvm.Cond.code ({ cls := "MatchmakerRulesModel", name := "factLine", desc := "(I)I" } : Jvm.MethodName) prog_14_method_72_code (4 : Nat) (Option.some Jvm.ClassFile.FieldType.int)) ∈ lw_all := lw_g (lw_at lw_m10 158 rfl) rfl
theorem q2415 : (Jvm.Cond.methodLink "MatchmakerRulesModel" (289 : Nat) ({ cls := "MatchmakerRulesModel", name := "writesNumber", desc := "(I)V" } : Jvm.MethodName)) ∈ lw_all := lw_g (lw_at lw_m10 159 rfl) rfl
theorem q2416 : (Jvm.Cond.privateMethod ({ cls := "MatchmakerRulesModel", name := "writesNumber", desc := "(I)V" } : Jvm.MethodName)) ∈ lw_tbl := lw_at lw_m10 160 rfl
theorem q2417 : (Jvm.Cond.instanceMethod ({ cls := "MatchmakerRulesModel", name := "writesNumber", desc := "(I)V" } : Jvm.MethodName)) ∈ lw_all := lw_g (lw_at lw_m10 161 rfl) rfl
theorem q2418 : (Jvm.Cond.code ({ cls := "MatchmakerRulesModel", name := "writesNumber", desc := "(I)V" } : Jvm.MethodName) prog_14_method_68_code (4 : Nat) (Option.none : Option Jvm.ClassFile.FieldType)) ∈ lw_all := lw_g (lw_at lw_m10 162 rfl) rfl
theorem q2420 : (Jvm.Cond.instanceMethod ({ cls := "MatchmakerRulesModel", name := "character", desc := "(I)C" } : Jvm.MethodName)) ∈ lw_all := lw_g (lw_at lw_m10 164 rfl) rfl
theorem q2421 : (Jvm.Cond.selects "MatchmakerRulesModel" ({ cls := "MatchmakerRulesModel", name := "character", desc := "(I)C" } : Jvm.MethodName) ({ cls := "MatchmakerRulesModel", name := "character", desc := "(I)C" } : Jvm.MethodName)) ∈ lw_all := lw_g (lw_at lw_m10 165 rfl) rfl
theorem q2422 : (Jvm.Cond.code ({ cls := "MatchmakerRulesModel", name := "character", desc := "(I)C" } : Jvm.MethodName) prog_14_method_73_code (2 : Nat) (Option.some Jvm.ClassFile.FieldType.char)) ∈ lw_all := lw_g (lw_at lw_m10 166 rfl) rfl
theorem q2424 : (Jvm.Cond.instanceMethod ({ cls := "MatchmakerRulesModel", name := "refusal", desc := "(Z)I" } : Jvm.MethodName)) ∈ lw_all := lw_g (lw_at lw_m10 168 rfl) rfl
theorem q2425 : (Jvm.Cond.selects "MatchmakerRulesModel" ({ cls := "MatchmakerRulesModel", name := "refusal", desc := "(Z)I" } : Jvm.MethodName) ({ cls := "MatchmakerRulesModel", name := "refusal", desc := "(Z)I" } : Jvm.MethodName)) ∈ lw_all := lw_g (lw_at lw_m10 169 rfl) rfl
theorem q2426 : (Jvm.Cond.code ({ cls := "MatchmakerRulesModel", name := "refusal", desc := "(Z)I" } : Jvm.MethodName) prog_14_method_74_code (2 : Nat) (Option.some Jvm.ClassFile.FieldType.int)) ∈ lw_all := lw_g (lw_at lw_m10 170 rfl) rfl
theorem q2428 : (Jvm.Cond.instanceMethod ({ cls := "MatchmakerRulesModel", name := "account", desc := "(I)I" } : Jvm.MethodName)) ∈ lw_all := lw_g (lw_at lw_m10 172 rfl) rfl
theorem q2429 : (Jvm.Cond.selects "MatchmakerRulesModel" ({ cls := "MatchmakerRulesModel", name := "account", desc := "(I)I" } : Jvm.MethodName) ({ cls := "MatchmakerRulesModel", name := "account", desc := "(I)I" } : Jvm.MethodName)) ∈ lw_all := lw_g (lw_at lw_m10 173 rfl) rfl
theorem q2430 : (Jvm.Cond.code ({ cls := "MatchmakerRulesModel", name := "account", desc := "(I)I" } : Jvm.MethodName) prog_14_method_79_code (2 : Nat) (Option.some Jvm.ClassFile.FieldType.int)) ∈ lw_all := lw_g (lw_at lw_m10 174 rfl) rfl
theorem q2431 : (Jvm.Cond.methodLink "MatchmakerRulesModel" (292 : Nat) ({ cls := "MatchmakerRulesModel", name := "toldMany", desc := "()I" } : Jvm.MethodName)) ∈ lw_all := lw_g (lw_at lw_m10 175 rfl) rfl
theorem q2432 : (Jvm.Cond.privateMethod ({ cls := "MatchmakerRulesModel", name := "toldMany", desc := "()I" } : Jvm.MethodName)) ∈ lw_tbl := lw_at lw_m10 176 rfl
theorem q2433 : (Jvm.Cond.instanceMethod ({ cls := "MatchmakerRulesModel", name := "toldMany", desc := "()I" } : Jvm.MethodName)) ∈ lw_all := lw_g (lw_at lw_m10 177 rfl) rfl
theorem q2434 : (Jvm.Cond.code ({ cls := "MatchmakerRulesModel", name := "toldMany", desc := "()I" } : Jvm.MethodName) prog_14_method_75_code (3 : Nat) (Option.some Jvm.ClassFile.FieldType.int)) ∈ lw_all := lw_g (lw_at lw_m10 178 rfl) rfl
theorem q2435 : (Jvm.Cond.methodLink "MatchmakerRulesModel" (295 : Nat) ({ cls := "MatchmakerRulesModel", name := "dueMany", desc := "()I" } : Jvm.MethodName)) ∈ lw_all := lw_g (lw_at lw_m10 179 rfl) rfl
theorem q2436 : (Jvm.Cond.privateMethod ({ cls := "MatchmakerRulesModel", name := "dueMany", desc := "()I" } : Jvm.MethodName)) ∈ lw_tbl := lw_at lw_m10 180 rfl
theorem q2437 : (Jvm.Cond.instanceMethod ({ cls := "MatchmakerRulesModel", name := "dueMany", desc := "()I" } : Jvm.MethodName)) ∈ lw_all := lw_g (lw_at lw_m10 181 rfl) rfl
theorem q2438 : (Jvm.Cond.code ({ cls := "MatchmakerRulesModel", name := "dueMany", desc := "()I" } : Jvm.MethodName) prog_14_method_78_code (1 : Nat) (Option.some Jvm.ClassFile.FieldType.int)) ∈ lw_all := lw_g (lw_at lw_m10 182 rfl) rfl
theorem q2439 : (Jvm.Cond.methodLink "MatchmakerRulesModel" (298 : Nat) ({ cls := "MatchmakerRulesModel", name := "allReasons", desc := "()I" } : Jvm.MethodName)) ∈ lw_all := lw_g (lw_at lw_m10 183 rfl) rfl
theorem q2440 : (Jvm.Cond.privateMethod ({ cls := "MatchmakerRulesModel", name := "allReasons", desc := "()I" } : Jvm.MethodName)) ∈ lw_tbl := lw_at lw_m10 184 rfl
theorem q2441 : (Jvm.Cond.instanceMethod ({ cls := "MatchmakerRulesModel", name := "allReasons", desc := "()I" } : Jvm.MethodName)) ∈ lw_all := lw_g (lw_at lw_m10 185 rfl) rfl
theorem q2442 : (Jvm.Cond.code ({ cls := "MatchmakerRulesModel", name := "allReasons", desc := "()I" } : Jvm.MethodName) prog_14_method_76_code (3 : Nat) (Option.some Jvm.ClassFile.FieldType.int)) ∈ lw_all := lw_g (lw_at lw_m10 186 rfl) rfl
theorem q2443 : (Jvm.Cond.methodLink "MatchmakerRulesModel" (301 : Nat) ({ cls := "MatchmakerRulesModel", name := "deepest", desc := "()I" } : Jvm.MethodName)) ∈ lw_all := lw_g (lw_at lw_m10 187 rfl) rfl
theorem q2444 : (Jvm.Cond.privateMethod ({ cls := "MatchmakerRulesModel", name := "deepest", desc := "()I" } : Jvm.MethodName)) ∈ lw_tbl := lw_at lw_m10 188 rfl
theorem q2445 : (Jvm.Cond.instanceMethod ({ cls := "MatchmakerRulesModel", name := "deepest", desc := "()I" } : Jvm.MethodName)) ∈ lw_all := lw_g (lw_at lw_m10 189 rfl) rfl
theorem q2446 : (Jvm.Cond.code ({ cls := "MatchmakerRulesModel", name := "deepest", desc := "()I" } : Jvm.MethodName) prog_14_method_77_code (3 : Nat) (Option.some Jvm.ClassFile.FieldType.int)) ∈ lw_all := lw_g (lw_at lw_m10 190 rfl) rfl
theorem q2448 : (Jvm.Cond.instanceMethod ({ cls := "MatchmakerRulesModel", name := "meanTrust", desc := "()D" } : Jvm.MethodName)) ∈ lw_all := lw_g (lw_at lw_m10 192 rfl) rfl
theorem q2449 : (Jvm.Cond.selects "MatchmakerRulesModel" ({ cls := "MatchmakerRulesModel", name := "meanTrust", desc := "()D" } : Jvm.MethodName) ({ cls := "MatchmakerRulesModel", name := "meanTrust", desc := "()D" } : Jvm.MethodName)) ∈ lw_all := lw_g (lw_at lw_m10 193 rfl) rfl
theorem q2450 : (Jvm.Cond.code ({ cls := "MatchmakerRulesModel", name := "meanTrust", desc := "()D" } : Jvm.MethodName) prog_14_method_80_code (4 : Nat) (Option.some Jvm.ClassFile.FieldType.double)) ∈ lw_all := lw_g (lw_at lw_m10 194 rfl) rfl
theorem q2452 : (Jvm.Cond.instanceMethod ({ cls := "MatchmakerRulesModel", name := "store", desc := "(IZ)I" } : Jvm.MethodName)) ∈ lw_all := lw_g (lw_at lw_m10 196 rfl) rfl
theorem q2453 : (Jvm.Cond.selects "MatchmakerRulesModel" ({ cls := "MatchmakerRulesModel", name := "store", desc := "(IZ)I" } : Jvm.MethodName) ({ cls := "MatchmakerRulesModel", name := "store", desc := "(IZ)I" } : Jvm.MethodName)) ∈ lw_all := lw_g (lw_at lw_m10 197 rfl) rfl
theorem q2454 : (Jvm.Cond.code ({ cls := "MatchmakerRulesModel", name := "store", desc := "(IZ)I" } : Jvm.MethodName) prog_14_method_81_code (4 : Nat) (Option.some Jvm.ClassFile.FieldType.int)) ∈ lw_all := lw_g (lw_at lw_m10 198 rfl) rfl
theorem q2456 : (Jvm.Cond.instanceMethod ({ cls := "MatchmakerRulesModel", name := "copyRow", desc := "(II)I" } : Jvm.MethodName)) ∈ lw_all := lw_g (lw_at lw_m10 200 rfl) rfl
theorem q2457 : (Jvm.Cond.selects "MatchmakerRulesModel" ({ cls := "MatchmakerRulesModel", name := "copyRow", desc := "(II)I" } : Jvm.MethodName) ({ cls := "MatchmakerRulesModel", name := "copyRow", desc := "(II)I" } : Jvm.MethodName)) ∈ lw_all := lw_g (lw_at lw_m10 201 rfl) rfl
theorem q2458 : (Jvm.Cond.code ({ cls := "MatchmakerRulesModel", name := "copyRow", desc := "(II)I" } : Jvm.MethodName) prog_14_method_83_code (6 : Nat) (Option.some Jvm.ClassFile.FieldType.int)) ∈ lw_all := lw_g (lw_at lw_m10 202 rfl) rfl
theorem q2459 : (Jvm.Cond.methodLink "MatchmakerRulesModel" (304 : Nat) ({ cls := "MatchmakerRulesModel", name := "bitsAt", desc := "(II)I" } : Jvm.MethodName)) ∈ lw_all := lw_g (lw_at lw_m10 203 rfl) rfl
theorem q2460 : (Jvm.Cond.privateMethod ({ cls := "MatchmakerRulesModel", name := "bitsAt", desc := "(II)I" } : Jvm.MethodName)) ∈ lw_tbl := lw_at lw_m10 204 rfl
theorem q2461 : (Jvm.Cond.instanceMethod ({ cls := "MatchmakerRulesModel", name := "bitsAt", desc := "(II)I" } : Jvm.MethodName)) ∈ lw_all := lw_g (lw_at lw_m10 205 rfl) rfl
theorem q2462 : (Jvm.Cond.code ({ cls := "MatchmakerRulesModel", name := "bitsAt", desc := "(II)I" } : Jvm.MethodName) prog_14_method_82_code (3 : Nat) (Option.some Jvm.ClassFile.FieldType.int)) ∈ lw_all := lw_g (lw_at lw_m10 206 rfl) rfl
theorem q2464 : (Jvm.Cond.instanceMethod ({ cls := "MatchmakerRulesModel", name := "element", desc := "(II)I" } : Jvm.MethodName)) ∈ lw_all := lw_g (lw_at lw_m10 208 rfl) rfl
theorem q2465 : (Jvm.Cond.selects "MatchmakerRulesModel" ({ cls := "MatchmakerRulesModel", name := "element", desc := "(II)I" } : Jvm.MethodName) ({ cls := "MatchmakerRulesModel", name := "element", desc := "(II)I" } : Jvm.MethodName)) ∈ lw_all := lw_g (lw_at lw_m10 209 rfl) rfl
theorem q2466 : (Jvm.Cond.code ({ cls := "MatchmakerRulesModel", name := "element", desc := "(II)I" } : Jvm.MethodName) prog_14_method_84_code (3 : Nat) (Option.some Jvm.ClassFile.FieldType.int)) ∈ lw_all := lw_g (lw_at lw_m10 210 rfl) rfl
theorem q2468 : (Jvm.Cond.instanceMethod ({ cls := "MatchmakerRulesModel", name := "append", desc := "(I)I" } : Jvm.MethodName)) ∈ lw_all := lw_g (lw_at lw_m10 212 rfl) rfl
theorem q2469 : (Jvm.Cond.selects "MatchmakerRulesModel" ({ cls := "MatchmakerRulesModel", name := "append", desc := "(I)I" } : Jvm.MethodName) ({ cls := "MatchmakerRulesModel", name := "append", desc := "(I)I" } : Jvm.MethodName)) ∈ lw_all := lw_g (lw_at lw_m10 213 rfl) rfl
theorem q2470 : (Jvm.Cond.code ({ cls := "MatchmakerRulesModel", name := "append", desc := "(I)I" } : Jvm.MethodName) prog_14_method_85_code (5 : Nat) (Option.some Jvm.ClassFile.FieldType.int)) ∈ lw_all := lw_g (lw_at lw_m10 214 rfl) rfl
theorem q2472 : (Jvm.Cond.instanceMethod ({ cls := "MatchmakerRulesModel", name := "read", desc := "()I" } : Jvm.MethodName)) ∈ lw_all := lw_g (lw_at lw_m10 216 rfl) rfl
theorem q2473 : (Jvm.Cond.selects "MatchmakerRulesModel" ({ cls := "MatchmakerRulesModel", name := "read", desc := "()I" } : Jvm.MethodName) ({ cls := "MatchmakerRulesModel", name := "read", desc := "()I" } : Jvm.MethodName)) ∈ lw_all := lw_g (lw_at lw_m10 217 rfl) rfl
theorem q2474 : (Jvm.Cond.code ({ cls := "MatchmakerRulesModel", name := "read", desc := "()I" } : Jvm.MethodName) prog_14_method_97_code (4 : Nat) (Option.some Jvm.ClassFile.FieldType.int)) ∈ lw_all := lw_g (lw_at lw_m10 218 rfl) rfl
theorem q2475 : (Jvm.Cond.methodLink "MatchmakerRulesModel" (336 : Nat) ({ cls := "MatchmakerRulesModel", name := "readsOne", desc := "()V" } : Jvm.MethodName)) ∈ lw_all := lw_g (lw_at lw_m10 219 rfl) rfl
theorem q2476 : (Jvm.Cond.privateMethod ({ cls := "MatchmakerRulesModel", name := "readsOne", desc := "()V" } : Jvm.MethodName)) ∈ lw_tbl := lw_at lw_m10 220 rfl
theorem q2477 : (Jvm.Cond.instanceMethod ({ cls := "MatchmakerRulesModel", name := "readsOne", desc := "()V" } : Jvm.MethodName)) ∈ lw_all := lw_g (lw_at lw_m10 221 rfl) rfl
theorem q2478 : (Jvm.Cond.code ({ cls := "MatchmakerRulesModel", name := "readsOne", desc := "()V" } : Jvm.MethodName) prog_14_method_94_code (2 : Nat) (Option.none : Option Jvm.ClassFile.FieldType)) ∈ lw_all := lw_g (lw_at lw_m10 222 rfl) rfl
theorem q2479 : (Jvm.Cond.methodLink "MatchmakerRulesModel" (339 : Nat) ({ cls := "MatchmakerRulesModel", name := "does", desc := "(I)I" } : Jvm.MethodName)) ∈ lw_all := lw_g (lw_at lw_m10 223 rfl) rfl
theorem q2480 : (Jvm.Cond.privateMethod ({ cls := "MatchmakerRulesModel", name := "does", desc := "(I)I" } : Jvm.MethodName)) ∈ lw_tbl := lw_at lw_m10 224 rfl
theorem q2481 : (Jvm.Cond.instanceMethod ({ cls := "MatchmakerRulesModel", name := "does", desc := "(I)I" } : Jvm.MethodName)) ∈ lw_all := lw_g (lw_at lw_m10 225 rfl) rfl
theorem q2482 : (Jvm.Cond.code ({ cls := "MatchmakerRulesModel", name := "does", desc := "(I)I" } : Jvm.MethodName) prog_14_method_96_code (4 : Nat) (Option.some Jvm.ClassFile.FieldType.int)) ∈ lw_all := lw_g (lw_at lw_m10 226 rfl) rfl
theorem q2483 : (Jvm.Cond.methodLink "MatchmakerRulesModel" (333 : Nat) ({ cls := "MatchmakerRulesModel", name := "addsRuleAt", desc := "(I)I" } : Jvm.MethodName)) ∈ lw_all := lw_g (lw_at lw_m10 227 rfl) rfl
theorem q2484 : (Jvm.Cond.privateMethod ({ cls := "MatchmakerRulesModel", name := "addsRuleAt", desc := "(I)I" } : Jvm.MethodName)) ∈ lw_tbl := lw_at lw_m10 228 rfl
theorem q2485 : (Jvm.Cond.instanceMethod ({ cls := "MatchmakerRulesModel", name := "addsRuleAt", desc := "(I)I" } : Jvm.MethodName)) ∈ lw_all := lw_g (lw_at lw_m10 229 rfl) rfl
theorem q2486 : (Jvm.Cond.code ({ cls := "MatchmakerRulesModel", name := "addsRuleAt", desc := "(I)I" } : Jvm.MethodName) prog_14_method_95_code (2 : Nat) (Option.some Jvm.ClassFile.FieldType.int)) ∈ lw_all := lw_g (lw_at lw_m10 230 rfl) rfl
theorem q2488 : (Jvm.Cond.instanceMethod ({ cls := "MatchmakerRulesModel", name := "errorPosition", desc := "()I" } : Jvm.MethodName)) ∈ lw_all := lw_g (lw_at lw_m10 232 rfl) rfl
theorem q2489 : (Jvm.Cond.selects "MatchmakerRulesModel" ({ cls := "MatchmakerRulesModel", name := "errorPosition", desc := "()I" } : Jvm.MethodName) ({ cls := "MatchmakerRulesModel", name := "errorPosition", desc := "()I" } : Jvm.MethodName)) ∈ lw_all := lw_g (lw_at lw_m10 233 rfl) rfl
theorem q2490 : (Jvm.Cond.code ({ cls := "MatchmakerRulesModel", name := "errorPosition", desc := "()I" } : Jvm.MethodName) prog_14_method_98_code (1 : Nat) (Option.some Jvm.ClassFile.FieldType.int)) ∈ lw_all := lw_g (lw_at lw_m10 234 rfl) rfl
theorem q2492 : (Jvm.Cond.instanceMethod ({ cls := "MatchmakerRulesModel", name := "refusedItem", desc := "()I" } : Jvm.MethodName)) ∈ lw_all := lw_g (lw_at lw_m10 236 rfl) rfl
theorem q2493 : (Jvm.Cond.selects "MatchmakerRulesModel" ({ cls := "MatchmakerRulesModel", name := "refusedItem", desc := "()I" } : Jvm.MethodName) ({ cls := "MatchmakerRulesModel", name := "refusedItem", desc := "()I" } : Jvm.MethodName)) ∈ lw_all := lw_g (lw_at lw_m10 237 rfl) rfl
theorem q2494 : (Jvm.Cond.code ({ cls := "MatchmakerRulesModel", name := "refusedItem", desc := "()I" } : Jvm.MethodName) prog_14_method_99_code (1 : Nat) (Option.some Jvm.ClassFile.FieldType.int)) ∈ lw_all := lw_g (lw_at lw_m10 238 rfl) rfl
theorem q2496 : (Jvm.Cond.instanceMethod ({ cls := "MatchmakerRulesModel", name := "undo", desc := "()I" } : Jvm.MethodName)) ∈ lw_all := lw_g (lw_at lw_m11 0 rfl) rfl
theorem q2497 : (Jvm.Cond.selects "MatchmakerRulesModel" ({ cls := "MatchmakerRulesModel", name := "undo", desc := "()I" } : Jvm.MethodName) ({ cls := "MatchmakerRulesModel", name := "undo", desc := "()I" } : Jvm.MethodName)) ∈ lw_all := lw_g (lw_at lw_m11 1 rfl) rfl
theorem q2498 : (Jvm.Cond.code ({ cls := "MatchmakerRulesModel", name := "undo", desc := "()I" } : Jvm.MethodName) prog_14_method_100_code (2 : Nat) (Option.some Jvm.ClassFile.FieldType.int)) ∈ lw_all := lw_g (lw_at lw_m11 2 rfl) rfl
theorem q2500 : (Jvm.Cond.instanceMethod ({ cls := "MatchmakerRulesModel", name := "snapshot", desc := "()I" } : Jvm.MethodName)) ∈ lw_all := lw_g (lw_at lw_m11 4 rfl) rfl
theorem q2501 : (Jvm.Cond.selects "MatchmakerRulesModel" ({ cls := "MatchmakerRulesModel", name := "snapshot", desc := "()I" } : Jvm.MethodName) ({ cls := "MatchmakerRulesModel", name := "snapshot", desc := "()I" } : Jvm.MethodName)) ∈ lw_all := lw_g (lw_at lw_m11 5 rfl) rfl
theorem q2502 : (Jvm.Cond.code ({ cls := "MatchmakerRulesModel", name := "snapshot", desc := "()I" } : Jvm.MethodName) prog_14_method_101_code (2 : Nat) (Option.some Jvm.ClassFile.FieldType.int)) ∈ lw_all := lw_g (lw_at lw_m11 6 rfl) rfl
theorem q2504 : (Jvm.Cond.instanceMethod ({ cls := "MatchmakerRulesModel", name := "restore", desc := "()I" } : Jvm.MethodName)) ∈ lw_all := lw_g (lw_at lw_m11 8 rfl) rfl
theorem q2505 : (Jvm.Cond.selects "MatchmakerRulesModel" ({ cls := "MatchmakerRulesModel", name := "restore", desc := "()I" } : Jvm.MethodName) ({ cls := "MatchmakerRulesModel", name := "restore", desc := "()I" } : Jvm.MethodName)) ∈ lw_all := lw_g (lw_at lw_m11 9 rfl) rfl
theorem q2506 : (Jvm.Cond.code ({ cls := "MatchmakerRulesModel", name := "restore", desc := "()I" } : Jvm.MethodName) prog_14_method_102_code (2 : Nat) (Option.some Jvm.ClassFile.FieldType.int)) ∈ lw_all := lw_g (lw_at lw_m11 10 rfl) rfl
theorem q2533 : (Jvm.Cond.castable "MatchmakerRulesModel" "java/lang/Object") ∈ lw_tbl := lw_at lw_m11 37 rfl
theorem in_X4 : ∀ w ∈ wsX40, w ∈ lw_all := lw_in wsX40 [2022, 2024, 2026, 2028, 2030, 2032, 2034, 2036, 2038, 2040, 2042, 2044, 2046, 2048, 2050, 2052, 2054, 2056, 2058, 2060, 2062, 2064, 2066, 2068, 2070, 2072, 2074, 2076, 2078, 2080, 2082, 2084, 2086, 2088, 2090, 2092, 2094] (by decide +kernel) (by decide +kernel)
