/-! LogGrammarModel -/
set_option maxRecDepth 100000
def RX3 : String := "LogGrammarModel"
def TX3 : u_T := fun k => match k with
  | 0 => ("LogGrammarModel", "offset", "[I", true)
  | 1 => ("LogGrammarModel", "patience", "I", false)
  | 2 => ("LogGrammarModel", "closed", "Z", false)
  | 3 => ("LogGrammarModel", "events", "I", false)
  | 4 => ("LogGrammarModel", "dropped", "I", false)
  | 5 => ("LogGrammarModel", "present", "I", false)
  | 6 => ("LogGrammarModel", "node", "[I", true)
  | 7 => ("LogGrammarModel", "time", "[I", true)
  | 8 => ("LogGrammarModel", "kind", "[I", true)
  | 9 => ("LogGrammarModel", "id", "[I", true)
  | 10 => ("LogGrammarModel", "value", "[I", true)
  | 11 => ("LogGrammarModel", "late", "[Z", true)
  | 12 => ("LogGrammarModel", "log", "[I", true)
  | 13 => ("LogGrammarModel", "parts", "I", false)
  | 14 => ("LogGrammarModel", "sizes", "[I", true)
  | 15 => ("LogGrammarModel", "put", "I", false)
  | 16 => ("LogGrammarModel", "what", "[I", true)
  | 17 => ("LogGrammarModel", "one", "[I", true)
  | 18 => ("LogGrammarModel", "other", "[I", true)
  | 19 => ("LogGrammarModel", "size", "[I", true)
  | 20 => ("LogGrammarModel", "monitors", "I", false)
  | 21 => ("LogGrammarModel", "sliced", "[Z", true)
  | 22 => ("LogGrammarModel", "guard", "[Z", true)
  | 23 => ("LogGrammarModel", "ends", "[I", true)
  | 24 => ("LogGrammarModel", "taken", "[I", true)
  | 25 => ("LogGrammarModel", "kept", "[I", true)
  | 26 => ("LogGrammarModel", "since", "[I", true)
  | 27 => ("LogGrammarModel", "many", "I", false)
  | 28 => ("LogGrammarModel", "row", "[I", true)
  | 29 => ("LogGrammarModel", "rows", "I", false)
  | 30 => ("LogGrammarModel", "line", "[I", true)
  | 31 => ("LogGrammarModel", "ids", "I", false)
  | 32 => ("LogGrammarModel", "told", "[I", true)
  | 33 => ("LogGrammarModel", "found", "[I", true)
  | _ => ("LogGrammarModel", "thrown", "I", false)
def tyX3 : Nat → FieldType := fun k => match k with
  | 0 => .array .int
  | 1 => .int
  | 2 => .boolean
  | 3 => .int
  | 4 => .int
  | 5 => .int
  | 6 => .array .int
  | 7 => .array .int
  | 8 => .array .int
  | 9 => .array .int
  | 10 => .array .int
  | 11 => .array .boolean
  | 12 => .array .int
  | 13 => .int
  | 14 => .array .int
  | 15 => .int
  | 16 => .array .int
  | 17 => .array .int
  | 18 => .array .int
  | 19 => .array .int
  | 20 => .int
  | 21 => .array .boolean
  | 22 => .array .boolean
  | 23 => .array .int
  | 24 => .array .int
  | 25 => .array .int
  | 26 => .array .int
  | 27 => .int
  | 28 => .array .int
  | 29 => .int
  | 30 => .array .int
  | 31 => .int
  | 32 => .array .int
  | 33 => .array .int
  | _ => .int
abbrev wsX30 : List Cond := u_ws RX3 TX3 35
set_option maxRecDepth 100000 in
theorem nmX3 : ∀ a, a < 35 → ∀ b, b < 35 → a ≠ b → (TX3 a).2.1 ≠ (TX3 b).2.1 := by decide +kernel
set_option maxRecDepth 100000 in
theorem tyX3_ok : ∀ k, k < 35 → parseFieldDescriptor (TX3 k).2.2.1 = some (tyX3 k) := by decide +kernel
abbrev cX3_init : ByteArray := prog_13_method_1_code
def yX3_init : MethodName := ⟨RX3, "<init>", "()V"⟩
def dkwX3_init_8 : List UInt8 := [188, 10, 181, 0, 78, 42, 16, 80, 188, 10, 181, 0, 81, 177]
abbrev dktX3_init_8 : List UInt8 := dkwX3_init_8 ++ []
def dkwX3_init_7 : List UInt8 := [181, 0, 69, 42, 16, 80, 188, 10, 181, 0, 72, 42, 16, 80, 188, 10, 181, 0, 75, 42, 17, 7, 128]
abbrev dktX3_init_7 : List UInt8 := dkwX3_init_7 ++ dktX3_init_8
def dkwX3_init_6 : List UInt8 := [16, 6, 188, 10, 181, 0, 63, 42, 17, 1, 224, 188, 10, 181, 0, 66, 42, 17, 1, 224, 188, 10]
abbrev dktX3_init_6 : List UInt8 := dkwX3_init_6 ++ dktX3_init_7
def dkwX3_init_5 : List UInt8 := [16, 6, 188, 4, 181, 0, 54, 42, 16, 6, 188, 4, 181, 0, 57, 42, 16, 6, 188, 10, 181, 0, 60, 42]
abbrev dktX3_init_5 : List UInt8 := dkwX3_init_5 ++ dktX3_init_6
def dkwX3_init_4 : List UInt8 := [188, 10, 181, 0, 45, 42, 17, 1, 80, 188, 10, 181, 0, 48, 42, 17, 1, 80, 188, 10, 181, 0, 51, 42]
abbrev dktX3_init_4 : List UInt8 := dkwX3_init_4 ++ dktX3_init_5
def dkwX3_init_3 : List UInt8 := [181, 0, 36, 42, 16, 8, 188, 10, 181, 0, 39, 42, 17, 1, 80, 188, 10, 181, 0, 42, 42, 17, 1, 80]
abbrev dktX3_init_3 : List UInt8 := dkwX3_init_3 ++ dktX3_init_4
def dkwX3_init_2 : List UInt8 := [181, 0, 26, 42, 16, 80, 188, 10, 181, 0, 29, 42, 16, 80, 188, 4, 181, 0, 32, 42, 16, 80, 188, 10]
abbrev dktX3_init_2 : List UInt8 := dkwX3_init_2 ++ dktX3_init_3
def dkwX3_init_1 : List UInt8 := [181, 0, 17, 42, 16, 80, 188, 10, 181, 0, 20, 42, 16, 80, 188, 10, 181, 0, 23, 42, 16, 80, 188, 10]
abbrev dktX3_init_1 : List UInt8 := dkwX3_init_1 ++ dktX3_init_2
def dkwX3_init_0 : List UInt8 := [42, 183, 0, 1, 42, 7, 188, 10, 181, 0, 7, 42, 16, 50, 181, 0, 13, 42, 16, 80, 188, 10]
abbrev dktX3_init_0 : List UInt8 := dkwX3_init_0 ++ dktX3_init_1
theorem dksX3_init_0 : cX3_init.data.toList.drop 0 = dktX3_init_0 := by decide +kernel
theorem dksX3_init_1 : cX3_init.data.toList.drop 22 = dktX3_init_1 := dk_seg dksX3_init_0 22 rfl rfl
theorem dksX3_init_2 : cX3_init.data.toList.drop 46 = dktX3_init_2 := dk_seg dksX3_init_1 24 rfl rfl
theorem dksX3_init_3 : cX3_init.data.toList.drop 70 = dktX3_init_3 := dk_seg dksX3_init_2 24 rfl rfl
theorem dksX3_init_4 : cX3_init.data.toList.drop 94 = dktX3_init_4 := dk_seg dksX3_init_3 24 rfl rfl
theorem dksX3_init_5 : cX3_init.data.toList.drop 118 = dktX3_init_5 := dk_seg dksX3_init_4 24 rfl rfl
theorem dksX3_init_6 : cX3_init.data.toList.drop 142 = dktX3_init_6 := dk_seg dksX3_init_5 24 rfl rfl
theorem dksX3_init_7 : cX3_init.data.toList.drop 164 = dktX3_init_7 := dk_seg dksX3_init_6 22 rfl rfl
theorem dksX3_init_8 : cX3_init.data.toList.drop 187 = dktX3_init_8 := dk_seg dksX3_init_7 23 rfl rfl
theorem dX3_init_0 : decode cX3_init 0 = .ok (.aload_n 0, 1) := dk_42 (dk_at dksX3_init_0 0 rfl rfl)
theorem dX3_init_1 : decode cX3_init 1 = .ok (.invokespecial 1, 3) := dk_183 0 1 (dk_at dksX3_init_0 1 rfl rfl)
theorem dX3_init_4 : decode cX3_init 4 = .ok (.aload_n 0, 1) := dk_42 (dk_at dksX3_init_0 4 rfl rfl)
theorem dX3_init_5 : decode cX3_init 5 = .ok (.iconst 4, 1) := dk_7 (dk_at dksX3_init_0 5 rfl rfl)
theorem dX3_init_6 : decode cX3_init 6 = .ok (.newarray .int, 2) := dk_188_10 (dk_at dksX3_init_0 6 rfl rfl)
theorem dX3_init_8 : decode cX3_init 8 = .ok (.putfield 7, 3) := dk_181 0 7 (dk_at dksX3_init_0 8 rfl rfl)
theorem dX3_init_11 : decode cX3_init 11 = .ok (.aload_n 0, 1) := dk_42 (dk_at dksX3_init_0 11 rfl rfl)
theorem dX3_init_12 : decode cX3_init 12 = .ok (.bipush 50, 2) := dk_16 50 (dk_at dksX3_init_0 12 rfl rfl)
theorem dX3_init_14 : decode cX3_init 14 = .ok (.putfield 13, 3) := dk_181 0 13 (dk_at dksX3_init_0 14 rfl rfl)
theorem dX3_init_17 : decode cX3_init 17 = .ok (.aload_n 0, 1) := dk_42 (dk_at dksX3_init_0 17 rfl rfl)
theorem dX3_init_18 : decode cX3_init 18 = .ok (.bipush 80, 2) := dk_16 80 (dk_at dksX3_init_0 18 rfl rfl)
theorem dX3_init_20 : decode cX3_init 20 = .ok (.newarray .int, 2) := dk_188_10 (dk_at dksX3_init_0 20 rfl rfl)
theorem dX3_init_22 : decode cX3_init 22 = .ok (.putfield 17, 3) := dk_181 0 17 (dk_at dksX3_init_1 0 rfl rfl)
theorem dX3_init_25 : decode cX3_init 25 = .ok (.aload_n 0, 1) := dk_42 (dk_at dksX3_init_1 3 rfl rfl)
theorem dX3_init_26 : decode cX3_init 26 = .ok (.bipush 80, 2) := dk_16 80 (dk_at dksX3_init_1 4 rfl rfl)
theorem dX3_init_28 : decode cX3_init 28 = .ok (.newarray .int, 2) := dk_188_10 (dk_at dksX3_init_1 6 rfl rfl)
theorem dX3_init_30 : decode cX3_init 30 = .ok (.putfield 20, 3) := dk_181 0 20 (dk_at dksX3_init_1 8 rfl rfl)
theorem dX3_init_33 : decode cX3_init 33 = .ok (.aload_n 0, 1) := dk_42 (dk_at dksX3_init_1 11 rfl rfl)
theorem dX3_init_34 : decode cX3_init 34 = .ok (.bipush 80, 2) := dk_16 80 (dk_at dksX3_init_1 12 rfl rfl)
theorem dX3_init_36 : decode cX3_init 36 = .ok (.newarray .int, 2) := dk_188_10 (dk_at dksX3_init_1 14 rfl rfl)
theorem dX3_init_38 : decode cX3_init 38 = .ok (.putfield 23, 3) := dk_181 0 23 (dk_at dksX3_init_1 16 rfl rfl)
theorem dX3_init_41 : decode cX3_init 41 = .ok (.aload_n 0, 1) := dk_42 (dk_at dksX3_init_1 19 rfl rfl)
theorem dX3_init_42 : decode cX3_init 42 = .ok (.bipush 80, 2) := dk_16 80 (dk_at dksX3_init_1 20 rfl rfl)
theorem dX3_init_44 : decode cX3_init 44 = .ok (.newarray .int, 2) := dk_188_10 (dk_at dksX3_init_1 22 rfl rfl)
theorem dX3_init_46 : decode cX3_init 46 = .ok (.putfield 26, 3) := dk_181 0 26 (dk_at dksX3_init_2 0 rfl rfl)
theorem dX3_init_49 : decode cX3_init 49 = .ok (.aload_n 0, 1) := dk_42 (dk_at dksX3_init_2 3 rfl rfl)
theorem dX3_init_50 : decode cX3_init 50 = .ok (.bipush 80, 2) := dk_16 80 (dk_at dksX3_init_2 4 rfl rfl)
theorem dX3_init_52 : decode cX3_init 52 = .ok (.newarray .int, 2) := dk_188_10 (dk_at dksX3_init_2 6 rfl rfl)
theorem dX3_init_54 : decode cX3_init 54 = .ok (.putfield 29, 3) := dk_181 0 29 (dk_at dksX3_init_2 8 rfl rfl)
theorem dX3_init_57 : decode cX3_init 57 = .ok (.aload_n 0, 1) := dk_42 (dk_at dksX3_init_2 11 rfl rfl)
theorem dX3_init_58 : decode cX3_init 58 = .ok (.bipush 80, 2) := dk_16 80 (dk_at dksX3_init_2 12 rfl rfl)
theorem dX3_init_60 : decode cX3_init 60 = .ok (.newarray .boolean, 2) := dk_188_4 (dk_at dksX3_init_2 14 rfl rfl)
theorem dX3_init_62 : decode cX3_init 62 = .ok (.putfield 32, 3) := dk_181 0 32 (dk_at dksX3_init_2 16 rfl rfl)
theorem dX3_init_65 : decode cX3_init 65 = .ok (.aload_n 0, 1) := dk_42 (dk_at dksX3_init_2 19 rfl rfl)
theorem dX3_init_66 : decode cX3_init 66 = .ok (.bipush 80, 2) := dk_16 80 (dk_at dksX3_init_2 20 rfl rfl)
theorem dX3_init_68 : decode cX3_init 68 = .ok (.newarray .int, 2) := dk_188_10 (dk_at dksX3_init_2 22 rfl rfl)
theorem dX3_init_70 : decode cX3_init 70 = .ok (.putfield 36, 3) := dk_181 0 36 (dk_at dksX3_init_3 0 rfl rfl)
theorem dX3_init_73 : decode cX3_init 73 = .ok (.aload_n 0, 1) := dk_42 (dk_at dksX3_init_3 3 rfl rfl)
theorem dX3_init_74 : decode cX3_init 74 = .ok (.bipush 8, 2) := dk_16 8 (dk_at dksX3_init_3 4 rfl rfl)
theorem dX3_init_76 : decode cX3_init 76 = .ok (.newarray .int, 2) := dk_188_10 (dk_at dksX3_init_3 6 rfl rfl)
theorem dX3_init_78 : decode cX3_init 78 = .ok (.putfield 39, 3) := dk_181 0 39 (dk_at dksX3_init_3 8 rfl rfl)
theorem dX3_init_81 : decode cX3_init 81 = .ok (.aload_n 0, 1) := dk_42 (dk_at dksX3_init_3 11 rfl rfl)
theorem dX3_init_82 : decode cX3_init 82 = .ok (.sipush 336, 3) := dk_17 1 80 (dk_at dksX3_init_3 12 rfl rfl)
theorem dX3_init_85 : decode cX3_init 85 = .ok (.newarray .int, 2) := dk_188_10 (dk_at dksX3_init_3 15 rfl rfl)
theorem dX3_init_87 : decode cX3_init 87 = .ok (.putfield 42, 3) := dk_181 0 42 (dk_at dksX3_init_3 17 rfl rfl)
theorem dX3_init_90 : decode cX3_init 90 = .ok (.aload_n 0, 1) := dk_42 (dk_at dksX3_init_3 20 rfl rfl)
theorem dX3_init_91 : decode cX3_init 91 = .ok (.sipush 336, 3) := dk_17 1 80 (dk_at dksX3_init_3 21 rfl rfl)
theorem dX3_init_94 : decode cX3_init 94 = .ok (.newarray .int, 2) := dk_188_10 (dk_at dksX3_init_4 0 rfl rfl)
theorem dX3_init_96 : decode cX3_init 96 = .ok (.putfield 45, 3) := dk_181 0 45 (dk_at dksX3_init_4 2 rfl rfl)
theorem dX3_init_99 : decode cX3_init 99 = .ok (.aload_n 0, 1) := dk_42 (dk_at dksX3_init_4 5 rfl rfl)
theorem dX3_init_100 : decode cX3_init 100 = .ok (.sipush 336, 3) := dk_17 1 80 (dk_at dksX3_init_4 6 rfl rfl)
theorem dX3_init_103 : decode cX3_init 103 = .ok (.newarray .int, 2) := dk_188_10 (dk_at dksX3_init_4 9 rfl rfl)
theorem dX3_init_105 : decode cX3_init 105 = .ok (.putfield 48, 3) := dk_181 0 48 (dk_at dksX3_init_4 11 rfl rfl)
theorem dX3_init_108 : decode cX3_init 108 = .ok (.aload_n 0, 1) := dk_42 (dk_at dksX3_init_4 14 rfl rfl)
theorem dX3_init_109 : decode cX3_init 109 = .ok (.sipush 336, 3) := dk_17 1 80 (dk_at dksX3_init_4 15 rfl rfl)
theorem dX3_init_112 : decode cX3_init 112 = .ok (.newarray .int, 2) := dk_188_10 (dk_at dksX3_init_4 18 rfl rfl)
theorem dX3_init_114 : decode cX3_init 114 = .ok (.putfield 51, 3) := dk_181 0 51 (dk_at dksX3_init_4 20 rfl rfl)
theorem dX3_init_117 : decode cX3_init 117 = .ok (.aload_n 0, 1) := dk_42 (dk_at dksX3_init_4 23 rfl rfl)
theorem dX3_init_118 : decode cX3_init 118 = .ok (.bipush 6, 2) := dk_16 6 (dk_at dksX3_init_5 0 rfl rfl)
theorem dX3_init_120 : decode cX3_init 120 = .ok (.newarray .boolean, 2) := dk_188_4 (dk_at dksX3_init_5 2 rfl rfl)
theorem dX3_init_122 : decode cX3_init 122 = .ok (.putfield 54, 3) := dk_181 0 54 (dk_at dksX3_init_5 4 rfl rfl)
theorem dX3_init_125 : decode cX3_init 125 = .ok (.aload_n 0, 1) := dk_42 (dk_at dksX3_init_5 7 rfl rfl)
theorem dX3_init_126 : decode cX3_init 126 = .ok (.bipush 6, 2) := dk_16 6 (dk_at dksX3_init_5 8 rfl rfl)
theorem dX3_init_128 : decode cX3_init 128 = .ok (.newarray .boolean, 2) := dk_188_4 (dk_at dksX3_init_5 10 rfl rfl)
theorem dX3_init_130 : decode cX3_init 130 = .ok (.putfield 57, 3) := dk_181 0 57 (dk_at dksX3_init_5 12 rfl rfl)
theorem dX3_init_133 : decode cX3_init 133 = .ok (.aload_n 0, 1) := dk_42 (dk_at dksX3_init_5 15 rfl rfl)
theorem dX3_init_134 : decode cX3_init 134 = .ok (.bipush 6, 2) := dk_16 6 (dk_at dksX3_init_5 16 rfl rfl)
theorem dX3_init_136 : decode cX3_init 136 = .ok (.newarray .int, 2) := dk_188_10 (dk_at dksX3_init_5 18 rfl rfl)
theorem dX3_init_138 : decode cX3_init 138 = .ok (.putfield 60, 3) := dk_181 0 60 (dk_at dksX3_init_5 20 rfl rfl)
theorem dX3_init_141 : decode cX3_init 141 = .ok (.aload_n 0, 1) := dk_42 (dk_at dksX3_init_5 23 rfl rfl)
theorem dX3_init_142 : decode cX3_init 142 = .ok (.bipush 6, 2) := dk_16 6 (dk_at dksX3_init_6 0 rfl rfl)
theorem dX3_init_144 : decode cX3_init 144 = .ok (.newarray .int, 2) := dk_188_10 (dk_at dksX3_init_6 2 rfl rfl)
theorem dX3_init_146 : decode cX3_init 146 = .ok (.putfield 63, 3) := dk_181 0 63 (dk_at dksX3_init_6 4 rfl rfl)
theorem dX3_init_149 : decode cX3_init 149 = .ok (.aload_n 0, 1) := dk_42 (dk_at dksX3_init_6 7 rfl rfl)
theorem dX3_init_150 : decode cX3_init 150 = .ok (.sipush 480, 3) := dk_17 1 224 (dk_at dksX3_init_6 8 rfl rfl)
theorem dX3_init_153 : decode cX3_init 153 = .ok (.newarray .int, 2) := dk_188_10 (dk_at dksX3_init_6 11 rfl rfl)
theorem dX3_init_155 : decode cX3_init 155 = .ok (.putfield 66, 3) := dk_181 0 66 (dk_at dksX3_init_6 13 rfl rfl)
theorem dX3_init_158 : decode cX3_init 158 = .ok (.aload_n 0, 1) := dk_42 (dk_at dksX3_init_6 16 rfl rfl)
theorem dX3_init_159 : decode cX3_init 159 = .ok (.sipush 480, 3) := dk_17 1 224 (dk_at dksX3_init_6 17 rfl rfl)
theorem dX3_init_162 : decode cX3_init 162 = .ok (.newarray .int, 2) := dk_188_10 (dk_at dksX3_init_6 20 rfl rfl)
theorem dX3_init_164 : decode cX3_init 164 = .ok (.putfield 69, 3) := dk_181 0 69 (dk_at dksX3_init_7 0 rfl rfl)
theorem dX3_init_167 : decode cX3_init 167 = .ok (.aload_n 0, 1) := dk_42 (dk_at dksX3_init_7 3 rfl rfl)
theorem dX3_init_168 : decode cX3_init 168 = .ok (.bipush 80, 2) := dk_16 80 (dk_at dksX3_init_7 4 rfl rfl)
theorem dX3_init_170 : decode cX3_init 170 = .ok (.newarray .int, 2) := dk_188_10 (dk_at dksX3_init_7 6 rfl rfl)
theorem dX3_init_172 : decode cX3_init 172 = .ok (.putfield 72, 3) := dk_181 0 72 (dk_at dksX3_init_7 8 rfl rfl)
theorem dX3_init_175 : decode cX3_init 175 = .ok (.aload_n 0, 1) := dk_42 (dk_at dksX3_init_7 11 rfl rfl)
theorem dX3_init_176 : decode cX3_init 176 = .ok (.bipush 80, 2) := dk_16 80 (dk_at dksX3_init_7 12 rfl rfl)
theorem dX3_init_178 : decode cX3_init 178 = .ok (.newarray .int, 2) := dk_188_10 (dk_at dksX3_init_7 14 rfl rfl)
theorem dX3_init_180 : decode cX3_init 180 = .ok (.putfield 75, 3) := dk_181 0 75 (dk_at dksX3_init_7 16 rfl rfl)
theorem dX3_init_183 : decode cX3_init 183 = .ok (.aload_n 0, 1) := dk_42 (dk_at dksX3_init_7 19 rfl rfl)
theorem dX3_init_184 : decode cX3_init 184 = .ok (.sipush 1920, 3) := dk_17 7 128 (dk_at dksX3_init_7 20 rfl rfl)
theorem dX3_init_187 : decode cX3_init 187 = .ok (.newarray .int, 2) := dk_188_10 (dk_at dksX3_init_8 0 rfl rfl)
theorem dX3_init_189 : decode cX3_init 189 = .ok (.putfield 78, 3) := dk_181 0 78 (dk_at dksX3_init_8 2 rfl rfl)
theorem dX3_init_192 : decode cX3_init 192 = .ok (.aload_n 0, 1) := dk_42 (dk_at dksX3_init_8 5 rfl rfl)
theorem dX3_init_193 : decode cX3_init 193 = .ok (.bipush 80, 2) := dk_16 80 (dk_at dksX3_init_8 6 rfl rfl)
theorem dX3_init_195 : decode cX3_init 195 = .ok (.newarray .int, 2) := dk_188_10 (dk_at dksX3_init_8 8 rfl rfl)
theorem dX3_init_197 : decode cX3_init 197 = .ok (.putfield 81, 3) := dk_181 0 81 (dk_at dksX3_init_8 10 rfl rfl)
theorem dX3_init_200 : decode cX3_init 200 = .ok (.return_, 1) := dk_177 (dk_at dksX3_init_8 13 rfl rfl)
abbrev cX3_thrown : ByteArray := prog_13_method_2_code
def yX3_thrown : MethodName := ⟨RX3, "thrown", "()I"⟩
theorem dX3_thrown_0 : decode cX3_thrown 0 = .ok (.aload_n 0, 1) := by decide +kernel
theorem dX3_thrown_1 : decode cX3_thrown 1 = .ok (.getfield 84, 3) := by decide +kernel
theorem dX3_thrown_4 : decode cX3_thrown 4 = .ok (.ireturn, 1) := by decide +kernel
abbrev cX3_setOffset : ByteArray := prog_13_method_31_code
def yX3_setOffset : MethodName := ⟨RX3, "setOffset", "(II)I"⟩
def dkwX3_setOffset_1 : List UInt8 := [42, 180, 0, 7, 27, 46, 62, 42, 180, 0, 7, 27, 28, 79, 29, 172]
abbrev dktX3_setOffset_1 : List UInt8 := dkwX3_setOffset_1 ++ []
def dkwX3_setOffset_0 : List UInt8 := [42, 27, 184, 0, 177, 28, 17, 252, 24, 17, 3, 232, 184, 0, 87, 4, 182, 0, 181, 154, 0, 5, 3, 172]
abbrev dktX3_setOffset_0 : List UInt8 := dkwX3_setOffset_0 ++ dktX3_setOffset_1
theorem dksX3_setOffset_0 : cX3_setOffset.data.toList.drop 0 = dktX3_setOffset_0 := by decide +kernel
theorem dksX3_setOffset_1 : cX3_setOffset.data.toList.drop 24 = dktX3_setOffset_1 := dk_seg dksX3_setOffset_0 24 rfl rfl
theorem dX3_setOffset_0 : decode cX3_setOffset 0 = .ok (.aload_n 0, 1) := dk_42 (dk_at dksX3_setOffset_0 0 rfl rfl)
theorem dX3_setOffset_1 : decode cX3_setOffset 1 = .ok (.iload_n 1, 1) := dk_27 (dk_at dksX3_setOffset_0 1 rfl rfl)
theorem dX3_setOffset_2 : decode cX3_setOffset 2 = .ok (.invokestatic 177, 3) := dk_184 0 177 (dk_at dksX3_setOffset_0 2 rfl rfl)
theorem dX3_setOffset_5 : decode cX3_setOffset 5 = .ok (.iload_n 2, 1) := dk_28 (dk_at dksX3_setOffset_0 5 rfl rfl)
theorem dX3_setOffset_6 : decode cX3_setOffset 6 = .ok (.sipush (-1000), 3) := dk_17 252 24 (dk_at dksX3_setOffset_0 6 rfl rfl)
theorem dX3_setOffset_9 : decode cX3_setOffset 9 = .ok (.sipush 1000, 3) := dk_17 3 232 (dk_at dksX3_setOffset_0 9 rfl rfl)
theorem dX3_setOffset_12 : decode cX3_setOffset 12 = .ok (.invokestatic 87, 3) := dk_184 0 87 (dk_at dksX3_setOffset_0 12 rfl rfl)
theorem dX3_setOffset_15 : decode cX3_setOffset 15 = .ok (.iconst 1, 1) := dk_4 (dk_at dksX3_setOffset_0 15 rfl rfl)
theorem dX3_setOffset_16 : decode cX3_setOffset 16 = .ok (.invokevirtual 181, 3) := dk_182 0 181 (dk_at dksX3_setOffset_0 16 rfl rfl)
theorem dX3_setOffset_19 : decode cX3_setOffset 19 = .ok (.ifCond .ne 5, 3) := dk_154 0 5 (dk_at dksX3_setOffset_0 19 rfl rfl)
theorem dX3_setOffset_22 : decode cX3_setOffset 22 = .ok (.iconst 0, 1) := dk_3 (dk_at dksX3_setOffset_0 22 rfl rfl)
theorem dX3_setOffset_23 : decode cX3_setOffset 23 = .ok (.ireturn, 1) := dk_172 (dk_at dksX3_setOffset_0 23 rfl rfl)
theorem dX3_setOffset_24 : decode cX3_setOffset 24 = .ok (.aload_n 0, 1) := dk_42 (dk_at dksX3_setOffset_1 0 rfl rfl)
theorem dX3_setOffset_25 : decode cX3_setOffset 25 = .ok (.getfield 7, 3) := dk_180 0 7 (dk_at dksX3_setOffset_1 1 rfl rfl)
theorem dX3_setOffset_28 : decode cX3_setOffset 28 = .ok (.iload_n 1, 1) := dk_27 (dk_at dksX3_setOffset_1 4 rfl rfl)
theorem dX3_setOffset_29 : decode cX3_setOffset 29 = .ok (.iaload, 1) := dk_46 (dk_at dksX3_setOffset_1 5 rfl rfl)
theorem dX3_setOffset_30 : decode cX3_setOffset 30 = .ok (.istore_n 3, 1) := dk_62 (dk_at dksX3_setOffset_1 6 rfl rfl)
theorem dX3_setOffset_31 : decode cX3_setOffset 31 = .ok (.aload_n 0, 1) := dk_42 (dk_at dksX3_setOffset_1 7 rfl rfl)
theorem dX3_setOffset_32 : decode cX3_setOffset 32 = .ok (.getfield 7, 3) := dk_180 0 7 (dk_at dksX3_setOffset_1 8 rfl rfl)
theorem dX3_setOffset_35 : decode cX3_setOffset 35 = .ok (.iload_n 1, 1) := dk_27 (dk_at dksX3_setOffset_1 11 rfl rfl)
theorem dX3_setOffset_36 : decode cX3_setOffset 36 = .ok (.iload_n 2, 1) := dk_28 (dk_at dksX3_setOffset_1 12 rfl rfl)
theorem dX3_setOffset_37 : decode cX3_setOffset 37 = .ok (.iastore, 1) := dk_79 (dk_at dksX3_setOffset_1 13 rfl rfl)
theorem dX3_setOffset_38 : decode cX3_setOffset 38 = .ok (.iload_n 3, 1) := dk_29 (dk_at dksX3_setOffset_1 14 rfl rfl)
theorem dX3_setOffset_39 : decode cX3_setOffset 39 = .ok (.ireturn, 1) := dk_172 (dk_at dksX3_setOffset_1 15 rfl rfl)
abbrev cX3_isNode : ByteArray := prog_13_method_6_code
def yX3_isNode : MethodName := ⟨RX3, "isNode", "(I)Z"⟩
def dkwX3_isNode_0 : List UInt8 := [26, 3, 6, 184, 0, 87, 172]
abbrev dktX3_isNode_0 : List UInt8 := dkwX3_isNode_0 ++ []
theorem dksX3_isNode_0 : cX3_isNode.data.toList.drop 0 = dktX3_isNode_0 := by decide +kernel
theorem dX3_isNode_0 : decode cX3_isNode 0 = .ok (.iload_n 0, 1) := dk_26 (dk_at dksX3_isNode_0 0 rfl rfl)
theorem dX3_isNode_1 : decode cX3_isNode 1 = .ok (.iconst 0, 1) := dk_3 (dk_at dksX3_isNode_0 1 rfl rfl)
theorem dX3_isNode_2 : decode cX3_isNode 2 = .ok (.iconst 3, 1) := dk_6 (dk_at dksX3_isNode_0 2 rfl rfl)
theorem dX3_isNode_3 : decode cX3_isNode 3 = .ok (.invokestatic 87, 3) := dk_184 0 87 (dk_at dksX3_isNode_0 3 rfl rfl)
theorem dX3_isNode_6 : decode cX3_isNode 6 = .ok (.ireturn, 1) := dk_172 (dk_at dksX3_isNode_0 6 rfl rfl)
abbrev cX3_in : ByteArray := prog_13_method_3_code
def yX3_in : MethodName := ⟨RX3, "in", "(III)Z"⟩
def dkwX3_in_0 : List UInt8 := [26, 27, 161, 0, 12, 26, 28, 163, 0, 7, 4, 167, 0, 4, 3, 172]
abbrev dktX3_in_0 : List UInt8 := dkwX3_in_0 ++ []
theorem dksX3_in_0 : cX3_in.data.toList.drop 0 = dktX3_in_0 := by decide +kernel
theorem dX3_in_0 : decode cX3_in 0 = .ok (.iload_n 0, 1) := dk_26 (dk_at dksX3_in_0 0 rfl rfl)
theorem dX3_in_1 : decode cX3_in 1 = .ok (.iload_n 1, 1) := dk_27 (dk_at dksX3_in_0 1 rfl rfl)
theorem dX3_in_2 : decode cX3_in 2 = .ok (.if_icmp .lt 12, 3) := dk_161 0 12 (dk_at dksX3_in_0 2 rfl rfl)
theorem dX3_in_5 : decode cX3_in 5 = .ok (.iload_n 0, 1) := dk_26 (dk_at dksX3_in_0 5 rfl rfl)
theorem dX3_in_6 : decode cX3_in 6 = .ok (.iload_n 2, 1) := dk_28 (dk_at dksX3_in_0 6 rfl rfl)
theorem dX3_in_7 : decode cX3_in 7 = .ok (.if_icmp .gt 7, 3) := dk_163 0 7 (dk_at dksX3_in_0 7 rfl rfl)
theorem dX3_in_10 : decode cX3_in 10 = .ok (.iconst 1, 1) := dk_4 (dk_at dksX3_in_0 10 rfl rfl)
theorem dX3_in_11 : decode cX3_in 11 = .ok (.goto 4, 3) := dk_167 0 4 (dk_at dksX3_in_0 11 rfl rfl)
theorem dX3_in_14 : decode cX3_in 14 = .ok (.iconst 0, 1) := dk_3 (dk_at dksX3_in_0 14 rfl rfl)
theorem dX3_in_15 : decode cX3_in 15 = .ok (.ireturn, 1) := dk_172 (dk_at dksX3_in_0 15 rfl rfl)
abbrev cX3_goes : ByteArray := prog_13_method_4_code
def yX3_goes : MethodName := ⟨RX3, "goes", "(ZZZ)Z"⟩
def dkwX3_goes_1 : List UInt8 := [167, 0, 4, 3, 181, 0, 84, 42, 180, 0, 84, 154, 0, 7, 4, 167, 0, 4, 3, 172]
abbrev dktX3_goes_1 : List UInt8 := dkwX3_goes_1 ++ []
def dkwX3_goes_0 : List UInt8 := [42, 27, 154, 0, 7, 4, 167, 0, 20, 28, 154, 0, 7, 5, 167, 0, 12, 29, 154, 0, 7, 6]
abbrev dktX3_goes_0 : List UInt8 := dkwX3_goes_0 ++ dktX3_goes_1
theorem dksX3_goes_0 : cX3_goes.data.toList.drop 0 = dktX3_goes_0 := by decide +kernel
theorem dksX3_goes_1 : cX3_goes.data.toList.drop 22 = dktX3_goes_1 := dk_seg dksX3_goes_0 22 rfl rfl
theorem dX3_goes_0 : decode cX3_goes 0 = .ok (.aload_n 0, 1) := dk_42 (dk_at dksX3_goes_0 0 rfl rfl)
theorem dX3_goes_1 : decode cX3_goes 1 = .ok (.iload_n 1, 1) := dk_27 (dk_at dksX3_goes_0 1 rfl rfl)
theorem dX3_goes_2 : decode cX3_goes 2 = .ok (.ifCond .ne 7, 3) := dk_154 0 7 (dk_at dksX3_goes_0 2 rfl rfl)
theorem dX3_goes_5 : decode cX3_goes 5 = .ok (.iconst 1, 1) := dk_4 (dk_at dksX3_goes_0 5 rfl rfl)
theorem dX3_goes_6 : decode cX3_goes 6 = .ok (.goto 20, 3) := dk_167 0 20 (dk_at dksX3_goes_0 6 rfl rfl)
theorem dX3_goes_9 : decode cX3_goes 9 = .ok (.iload_n 2, 1) := dk_28 (dk_at dksX3_goes_0 9 rfl rfl)
theorem dX3_goes_10 : decode cX3_goes 10 = .ok (.ifCond .ne 7, 3) := dk_154 0 7 (dk_at dksX3_goes_0 10 rfl rfl)
theorem dX3_goes_13 : decode cX3_goes 13 = .ok (.iconst 2, 1) := dk_5 (dk_at dksX3_goes_0 13 rfl rfl)
theorem dX3_goes_14 : decode cX3_goes 14 = .ok (.goto 12, 3) := dk_167 0 12 (dk_at dksX3_goes_0 14 rfl rfl)
theorem dX3_goes_17 : decode cX3_goes 17 = .ok (.iload_n 3, 1) := dk_29 (dk_at dksX3_goes_0 17 rfl rfl)
theorem dX3_goes_18 : decode cX3_goes 18 = .ok (.ifCond .ne 7, 3) := dk_154 0 7 (dk_at dksX3_goes_0 18 rfl rfl)
theorem dX3_goes_21 : decode cX3_goes 21 = .ok (.iconst 3, 1) := dk_6 (dk_at dksX3_goes_0 21 rfl rfl)
theorem dX3_goes_22 : decode cX3_goes 22 = .ok (.goto 4, 3) := dk_167 0 4 (dk_at dksX3_goes_1 0 rfl rfl)
theorem dX3_goes_25 : decode cX3_goes 25 = .ok (.iconst 0, 1) := dk_3 (dk_at dksX3_goes_1 3 rfl rfl)
theorem dX3_goes_26 : decode cX3_goes 26 = .ok (.putfield 84, 3) := dk_181 0 84 (dk_at dksX3_goes_1 4 rfl rfl)
theorem dX3_goes_29 : decode cX3_goes 29 = .ok (.aload_n 0, 1) := dk_42 (dk_at dksX3_goes_1 7 rfl rfl)
theorem dX3_goes_30 : decode cX3_goes 30 = .ok (.getfield 84, 3) := dk_180 0 84 (dk_at dksX3_goes_1 8 rfl rfl)
theorem dX3_goes_33 : decode cX3_goes 33 = .ok (.ifCond .ne 7, 3) := dk_154 0 7 (dk_at dksX3_goes_1 11 rfl rfl)
theorem dX3_goes_36 : decode cX3_goes 36 = .ok (.iconst 1, 1) := dk_4 (dk_at dksX3_goes_1 14 rfl rfl)
theorem dX3_goes_37 : decode cX3_goes 37 = .ok (.goto 4, 3) := dk_167 0 4 (dk_at dksX3_goes_1 15 rfl rfl)
theorem dX3_goes_40 : decode cX3_goes 40 = .ok (.iconst 0, 1) := dk_3 (dk_at dksX3_goes_1 18 rfl rfl)
theorem dX3_goes_41 : decode cX3_goes 41 = .ok (.ireturn, 1) := dk_172 (dk_at dksX3_goes_1 19 rfl rfl)
abbrev cX3_setPatience : ByteArray := prog_13_method_32_code
def yX3_setPatience : MethodName := ⟨RX3, "setPatience", "(I)I"⟩
def dkwX3_setPatience_1 : List UInt8 := [42, 27, 181, 0, 13, 28, 172]
abbrev dktX3_setPatience_1 : List UInt8 := dkwX3_setPatience_1 ++ []
def dkwX3_setPatience_0 : List UInt8 := [42, 27, 3, 17, 3, 232, 184, 0, 87, 4, 4, 182, 0, 181, 154, 0, 5, 3, 172, 42, 180, 0, 13, 61]
abbrev dktX3_setPatience_0 : List UInt8 := dkwX3_setPatience_0 ++ dktX3_setPatience_1
theorem dksX3_setPatience_0 : cX3_setPatience.data.toList.drop 0 = dktX3_setPatience_0 := by decide +kernel
theorem dksX3_setPatience_1 : cX3_setPatience.data.toList.drop 24 = dktX3_setPatience_1 := dk_seg dksX3_setPatience_0 24 rfl rfl
theorem dX3_setPatience_0 : decode cX3_setPatience 0 = .ok (.aload_n 0, 1) := dk_42 (dk_at dksX3_setPatience_0 0 rfl rfl)
theorem dX3_setPatience_1 : decode cX3_setPatience 1 = .ok (.iload_n 1, 1) := dk_27 (dk_at dksX3_setPatience_0 1 rfl rfl)
theorem dX3_setPatience_2 : decode cX3_setPatience 2 = .ok (.iconst 0, 1) := dk_3 (dk_at dksX3_setPatience_0 2 rfl rfl)
theorem dX3_setPatience_3 : decode cX3_setPatience 3 = .ok (.sipush 1000, 3) := dk_17 3 232 (dk_at dksX3_setPatience_0 3 rfl rfl)
theorem dX3_setPatience_6 : decode cX3_setPatience 6 = .ok (.invokestatic 87, 3) := dk_184 0 87 (dk_at dksX3_setPatience_0 6 rfl rfl)
theorem dX3_setPatience_9 : decode cX3_setPatience 9 = .ok (.iconst 1, 1) := dk_4 (dk_at dksX3_setPatience_0 9 rfl rfl)
theorem dX3_setPatience_10 : decode cX3_setPatience 10 = .ok (.iconst 1, 1) := dk_4 (dk_at dksX3_setPatience_0 10 rfl rfl)
theorem dX3_setPatience_11 : decode cX3_setPatience 11 = .ok (.invokevirtual 181, 3) := dk_182 0 181 (dk_at dksX3_setPatience_0 11 rfl rfl)
theorem dX3_setPatience_14 : decode cX3_setPatience 14 = .ok (.ifCond .ne 5, 3) := dk_154 0 5 (dk_at dksX3_setPatience_0 14 rfl rfl)
theorem dX3_setPatience_17 : decode cX3_setPatience 17 = .ok (.iconst 0, 1) := dk_3 (dk_at dksX3_setPatience_0 17 rfl rfl)
theorem dX3_setPatience_18 : decode cX3_setPatience 18 = .ok (.ireturn, 1) := dk_172 (dk_at dksX3_setPatience_0 18 rfl rfl)
theorem dX3_setPatience_19 : decode cX3_setPatience 19 = .ok (.aload_n 0, 1) := dk_42 (dk_at dksX3_setPatience_0 19 rfl rfl)
theorem dX3_setPatience_20 : decode cX3_setPatience 20 = .ok (.getfield 13, 3) := dk_180 0 13 (dk_at dksX3_setPatience_0 20 rfl rfl)
theorem dX3_setPatience_23 : decode cX3_setPatience 23 = .ok (.istore_n 2, 1) := dk_61 (dk_at dksX3_setPatience_0 23 rfl rfl)
theorem dX3_setPatience_24 : decode cX3_setPatience 24 = .ok (.aload_n 0, 1) := dk_42 (dk_at dksX3_setPatience_1 0 rfl rfl)
theorem dX3_setPatience_25 : decode cX3_setPatience 25 = .ok (.iload_n 1, 1) := dk_27 (dk_at dksX3_setPatience_1 1 rfl rfl)
theorem dX3_setPatience_26 : decode cX3_setPatience 26 = .ok (.putfield 13, 3) := dk_181 0 13 (dk_at dksX3_setPatience_1 2 rfl rfl)
theorem dX3_setPatience_29 : decode cX3_setPatience 29 = .ok (.iload_n 2, 1) := dk_28 (dk_at dksX3_setPatience_1 5 rfl rfl)
theorem dX3_setPatience_30 : decode cX3_setPatience 30 = .ok (.ireturn, 1) := dk_172 (dk_at dksX3_setPatience_1 6 rfl rfl)
abbrev cX3_event : ByteArray := prog_13_method_36_code
def yX3_event : MethodName := ⟨RX3, "event", "(IIIII)I"⟩
def dkwX3_event_1 : List UInt8 := [182, 0, 192, 42, 42, 180, 0, 91, 4, 100, 182, 0, 196, 54, 6, 42, 180, 0, 91, 4, 100, 172]
abbrev dktX3_event_1 : List UInt8 := dkwX3_event_1 ++ []
def dkwX3_event_0 : List UInt8 := [42, 27, 28, 29, 21, 4, 21, 5, 182, 0, 188, 154, 0, 5, 3, 172, 42, 27, 28, 29, 21, 4, 21, 5]
abbrev dktX3_event_0 : List UInt8 := dkwX3_event_0 ++ dktX3_event_1
theorem dksX3_event_0 : cX3_event.data.toList.drop 0 = dktX3_event_0 := by decide +kernel
theorem dksX3_event_1 : cX3_event.data.toList.drop 24 = dktX3_event_1 := dk_seg dksX3_event_0 24 rfl rfl
theorem dX3_event_0 : decode cX3_event 0 = .ok (.aload_n 0, 1) := dk_42 (dk_at dksX3_event_0 0 rfl rfl)
theorem dX3_event_1 : decode cX3_event 1 = .ok (.iload_n 1, 1) := dk_27 (dk_at dksX3_event_0 1 rfl rfl)
theorem dX3_event_2 : decode cX3_event 2 = .ok (.iload_n 2, 1) := dk_28 (dk_at dksX3_event_0 2 rfl rfl)
theorem dX3_event_3 : decode cX3_event 3 = .ok (.iload_n 3, 1) := dk_29 (dk_at dksX3_event_0 3 rfl rfl)
theorem dX3_event_4 : decode cX3_event 4 = .ok (.iload 4, 2) := dk_21 4 (dk_at dksX3_event_0 4 rfl rfl)
theorem dX3_event_6 : decode cX3_event 6 = .ok (.iload 5, 2) := dk_21 5 (dk_at dksX3_event_0 6 rfl rfl)
theorem dX3_event_8 : decode cX3_event 8 = .ok (.invokevirtual 188, 3) := dk_182 0 188 (dk_at dksX3_event_0 8 rfl rfl)
theorem dX3_event_11 : decode cX3_event 11 = .ok (.ifCond .ne 5, 3) := dk_154 0 5 (dk_at dksX3_event_0 11 rfl rfl)
theorem dX3_event_14 : decode cX3_event 14 = .ok (.iconst 0, 1) := dk_3 (dk_at dksX3_event_0 14 rfl rfl)
theorem dX3_event_15 : decode cX3_event 15 = .ok (.ireturn, 1) := dk_172 (dk_at dksX3_event_0 15 rfl rfl)
theorem dX3_event_16 : decode cX3_event 16 = .ok (.aload_n 0, 1) := dk_42 (dk_at dksX3_event_0 16 rfl rfl)
theorem dX3_event_17 : decode cX3_event 17 = .ok (.iload_n 1, 1) := dk_27 (dk_at dksX3_event_0 17 rfl rfl)
theorem dX3_event_18 : decode cX3_event 18 = .ok (.iload_n 2, 1) := dk_28 (dk_at dksX3_event_0 18 rfl rfl)
theorem dX3_event_19 : decode cX3_event 19 = .ok (.iload_n 3, 1) := dk_29 (dk_at dksX3_event_0 19 rfl rfl)
theorem dX3_event_20 : decode cX3_event 20 = .ok (.iload 4, 2) := dk_21 4 (dk_at dksX3_event_0 20 rfl rfl)
theorem dX3_event_22 : decode cX3_event 22 = .ok (.iload 5, 2) := dk_21 5 (dk_at dksX3_event_0 22 rfl rfl)
theorem dX3_event_24 : decode cX3_event 24 = .ok (.invokevirtual 192, 3) := dk_182 0 192 (dk_at dksX3_event_1 0 rfl rfl)
theorem dX3_event_27 : decode cX3_event 27 = .ok (.aload_n 0, 1) := dk_42 (dk_at dksX3_event_1 3 rfl rfl)
theorem dX3_event_28 : decode cX3_event 28 = .ok (.aload_n 0, 1) := dk_42 (dk_at dksX3_event_1 4 rfl rfl)
theorem dX3_event_29 : decode cX3_event 29 = .ok (.getfield 91, 3) := dk_180 0 91 (dk_at dksX3_event_1 5 rfl rfl)
theorem dX3_event_32 : decode cX3_event 32 = .ok (.iconst 1, 1) := dk_4 (dk_at dksX3_event_1 8 rfl rfl)
theorem dX3_event_33 : decode cX3_event 33 = .ok (.isub, 1) := dk_100 (dk_at dksX3_event_1 9 rfl rfl)
theorem dX3_event_34 : decode cX3_event 34 = .ok (.invokevirtual 196, 3) := dk_182 0 196 (dk_at dksX3_event_1 10 rfl rfl)
theorem dX3_event_37 : decode cX3_event 37 = .ok (.istore 6, 2) := dk_54 6 (dk_at dksX3_event_1 13 rfl rfl)
theorem dX3_event_39 : decode cX3_event 39 = .ok (.aload_n 0, 1) := dk_42 (dk_at dksX3_event_1 15 rfl rfl)
theorem dX3_event_40 : decode cX3_event 40 = .ok (.getfield 91, 3) := dk_180 0 91 (dk_at dksX3_event_1 16 rfl rfl)
theorem dX3_event_43 : decode cX3_event 43 = .ok (.iconst 1, 1) := dk_4 (dk_at dksX3_event_1 19 rfl rfl)
theorem dX3_event_44 : decode cX3_event 44 = .ok (.isub, 1) := dk_100 (dk_at dksX3_event_1 20 rfl rfl)
theorem dX3_event_45 : decode cX3_event 45 = .ok (.ireturn, 1) := dk_172 (dk_at dksX3_event_1 21 rfl rfl)
abbrev cX3_canCome : ByteArray := prog_13_method_33_code
def yX3_canCome : MethodName := ⟨RX3, "canCome", "(IIIII)Z"⟩
def dkwX3_canCome_4 : List UInt8 := [180, 0, 7, 27, 46, 100, 42, 180, 0, 13, 163, 0, 7, 4, 167, 0, 4, 3, 182, 0, 181, 172]
abbrev dktX3_canCome_4 : List UInt8 := dkwX3_canCome_4 ++ []
def dkwX3_canCome_3 : List UInt8 := [180, 0, 97, 154, 0, 36, 42, 180, 0, 91, 16, 80, 162, 0, 27, 42, 180, 0, 101, 28, 100, 42]
abbrev dktX3_canCome_3 : List UInt8 := dkwX3_canCome_3 ++ dktX3_canCome_4
def dkwX3_canCome_2 : List UInt8 := [167, 0, 4, 3, 54, 6, 27, 184, 0, 177, 54, 7, 42, 21, 7, 21, 6, 21, 7, 153, 0, 43, 42]
abbrev dktX3_canCome_2 : List UInt8 := dkwX3_canCome_2 ++ dktX3_canCome_3
def dkwX3_canCome_1 : List UInt8 := [16, 9, 184, 0, 87, 153, 0, 21, 21, 5, 17, 252, 24, 17, 3, 232, 184, 0, 87, 153, 0, 7, 4]
abbrev dktX3_canCome_1 : List UInt8 := dkwX3_canCome_1 ++ dktX3_canCome_2
def dkwX3_canCome_0 : List UInt8 := [28, 17, 3, 232, 17, 39, 16, 184, 0, 87, 153, 0, 39, 29, 184, 0, 185, 153, 0, 32, 21, 4, 2]
abbrev dktX3_canCome_0 : List UInt8 := dkwX3_canCome_0 ++ dktX3_canCome_1
theorem dksX3_canCome_0 : cX3_canCome.data.toList.drop 0 = dktX3_canCome_0 := by decide +kernel
theorem dksX3_canCome_1 : cX3_canCome.data.toList.drop 23 = dktX3_canCome_1 := dk_seg dksX3_canCome_0 23 rfl rfl
theorem dksX3_canCome_2 : cX3_canCome.data.toList.drop 46 = dktX3_canCome_2 := dk_seg dksX3_canCome_1 23 rfl rfl
theorem dksX3_canCome_3 : cX3_canCome.data.toList.drop 69 = dktX3_canCome_3 := dk_seg dksX3_canCome_2 23 rfl rfl
theorem dksX3_canCome_4 : cX3_canCome.data.toList.drop 91 = dktX3_canCome_4 := dk_seg dksX3_canCome_3 22 rfl rfl
theorem dX3_canCome_0 : decode cX3_canCome 0 = .ok (.iload_n 2, 1) := dk_28 (dk_at dksX3_canCome_0 0 rfl rfl)
theorem dX3_canCome_1 : decode cX3_canCome 1 = .ok (.sipush 1000, 3) := dk_17 3 232 (dk_at dksX3_canCome_0 1 rfl rfl)
theorem dX3_canCome_4 : decode cX3_canCome 4 = .ok (.sipush 10000, 3) := dk_17 39 16 (dk_at dksX3_canCome_0 4 rfl rfl)
theorem dX3_canCome_7 : decode cX3_canCome 7 = .ok (.invokestatic 87, 3) := dk_184 0 87 (dk_at dksX3_canCome_0 7 rfl rfl)
theorem dX3_canCome_10 : decode cX3_canCome 10 = .ok (.ifCond .eq 39, 3) := dk_153 0 39 (dk_at dksX3_canCome_0 10 rfl rfl)
theorem dX3_canCome_13 : decode cX3_canCome 13 = .ok (.iload_n 3, 1) := dk_29 (dk_at dksX3_canCome_0 13 rfl rfl)
theorem dX3_canCome_14 : decode cX3_canCome 14 = .ok (.invokestatic 185, 3) := dk_184 0 185 (dk_at dksX3_canCome_0 14 rfl rfl)
theorem dX3_canCome_17 : decode cX3_canCome 17 = .ok (.ifCond .eq 32, 3) := dk_153 0 32 (dk_at dksX3_canCome_0 17 rfl rfl)
theorem dX3_canCome_20 : decode cX3_canCome 20 = .ok (.iload 4, 2) := dk_21 4 (dk_at dksX3_canCome_0 20 rfl rfl)
theorem dX3_canCome_22 : decode cX3_canCome 22 = .ok (.iconst (-1), 1) := dk_2 (dk_at dksX3_canCome_0 22 rfl rfl)
theorem dX3_canCome_23 : decode cX3_canCome 23 = .ok (.bipush 9, 2) := dk_16 9 (dk_at dksX3_canCome_1 0 rfl rfl)
theorem dX3_canCome_25 : decode cX3_canCome 25 = .ok (.invokestatic 87, 3) := dk_184 0 87 (dk_at dksX3_canCome_1 2 rfl rfl)
theorem dX3_canCome_28 : decode cX3_canCome 28 = .ok (.ifCond .eq 21, 3) := dk_153 0 21 (dk_at dksX3_canCome_1 5 rfl rfl)
theorem dX3_canCome_31 : decode cX3_canCome 31 = .ok (.iload 5, 2) := dk_21 5 (dk_at dksX3_canCome_1 8 rfl rfl)
theorem dX3_canCome_33 : decode cX3_canCome 33 = .ok (.sipush (-1000), 3) := dk_17 252 24 (dk_at dksX3_canCome_1 10 rfl rfl)
theorem dX3_canCome_36 : decode cX3_canCome 36 = .ok (.sipush 1000, 3) := dk_17 3 232 (dk_at dksX3_canCome_1 13 rfl rfl)
theorem dX3_canCome_39 : decode cX3_canCome 39 = .ok (.invokestatic 87, 3) := dk_184 0 87 (dk_at dksX3_canCome_1 16 rfl rfl)
theorem dX3_canCome_42 : decode cX3_canCome 42 = .ok (.ifCond .eq 7, 3) := dk_153 0 7 (dk_at dksX3_canCome_1 19 rfl rfl)
theorem dX3_canCome_45 : decode cX3_canCome 45 = .ok (.iconst 1, 1) := dk_4 (dk_at dksX3_canCome_1 22 rfl rfl)
theorem dX3_canCome_46 : decode cX3_canCome 46 = .ok (.goto 4, 3) := dk_167 0 4 (dk_at dksX3_canCome_2 0 rfl rfl)
theorem dX3_canCome_49 : decode cX3_canCome 49 = .ok (.iconst 0, 1) := dk_3 (dk_at dksX3_canCome_2 3 rfl rfl)
theorem dX3_canCome_50 : decode cX3_canCome 50 = .ok (.istore 6, 2) := dk_54 6 (dk_at dksX3_canCome_2 4 rfl rfl)
theorem dX3_canCome_52 : decode cX3_canCome 52 = .ok (.iload_n 1, 1) := dk_27 (dk_at dksX3_canCome_2 6 rfl rfl)
theorem dX3_canCome_53 : decode cX3_canCome 53 = .ok (.invokestatic 177, 3) := dk_184 0 177 (dk_at dksX3_canCome_2 7 rfl rfl)
theorem dX3_canCome_56 : decode cX3_canCome 56 = .ok (.istore 7, 2) := dk_54 7 (dk_at dksX3_canCome_2 10 rfl rfl)
theorem dX3_canCome_58 : decode cX3_canCome 58 = .ok (.aload_n 0, 1) := dk_42 (dk_at dksX3_canCome_2 12 rfl rfl)
theorem dX3_canCome_59 : decode cX3_canCome 59 = .ok (.iload 7, 2) := dk_21 7 (dk_at dksX3_canCome_2 13 rfl rfl)
theorem dX3_canCome_61 : decode cX3_canCome 61 = .ok (.iload 6, 2) := dk_21 6 (dk_at dksX3_canCome_2 15 rfl rfl)
theorem dX3_canCome_63 : decode cX3_canCome 63 = .ok (.iload 7, 2) := dk_21 7 (dk_at dksX3_canCome_2 17 rfl rfl)
theorem dX3_canCome_65 : decode cX3_canCome 65 = .ok (.ifCond .eq 43, 3) := dk_153 0 43 (dk_at dksX3_canCome_2 19 rfl rfl)
theorem dX3_canCome_68 : decode cX3_canCome 68 = .ok (.aload_n 0, 1) := dk_42 (dk_at dksX3_canCome_2 22 rfl rfl)
theorem dX3_canCome_69 : decode cX3_canCome 69 = .ok (.getfield 97, 3) := dk_180 0 97 (dk_at dksX3_canCome_3 0 rfl rfl)
theorem dX3_canCome_72 : decode cX3_canCome 72 = .ok (.ifCond .ne 36, 3) := dk_154 0 36 (dk_at dksX3_canCome_3 3 rfl rfl)
theorem dX3_canCome_75 : decode cX3_canCome 75 = .ok (.aload_n 0, 1) := dk_42 (dk_at dksX3_canCome_3 6 rfl rfl)
theorem dX3_canCome_76 : decode cX3_canCome 76 = .ok (.getfield 91, 3) := dk_180 0 91 (dk_at dksX3_canCome_3 7 rfl rfl)
theorem dX3_canCome_79 : decode cX3_canCome 79 = .ok (.bipush 80, 2) := dk_16 80 (dk_at dksX3_canCome_3 10 rfl rfl)
theorem dX3_canCome_81 : decode cX3_canCome 81 = .ok (.if_icmp .ge 27, 3) := dk_162 0 27 (dk_at dksX3_canCome_3 12 rfl rfl)
theorem dX3_canCome_84 : decode cX3_canCome 84 = .ok (.aload_n 0, 1) := dk_42 (dk_at dksX3_canCome_3 15 rfl rfl)
theorem dX3_canCome_85 : decode cX3_canCome 85 = .ok (.getfield 101, 3) := dk_180 0 101 (dk_at dksX3_canCome_3 16 rfl rfl)
theorem dX3_canCome_88 : decode cX3_canCome 88 = .ok (.iload_n 2, 1) := dk_28 (dk_at dksX3_canCome_3 19 rfl rfl)
theorem dX3_canCome_89 : decode cX3_canCome 89 = .ok (.isub, 1) := dk_100 (dk_at dksX3_canCome_3 20 rfl rfl)
theorem dX3_canCome_90 : decode cX3_canCome 90 = .ok (.aload_n 0, 1) := dk_42 (dk_at dksX3_canCome_3 21 rfl rfl)
theorem dX3_canCome_91 : decode cX3_canCome 91 = .ok (.getfield 7, 3) := dk_180 0 7 (dk_at dksX3_canCome_4 0 rfl rfl)
theorem dX3_canCome_94 : decode cX3_canCome 94 = .ok (.iload_n 1, 1) := dk_27 (dk_at dksX3_canCome_4 3 rfl rfl)
theorem dX3_canCome_95 : decode cX3_canCome 95 = .ok (.iaload, 1) := dk_46 (dk_at dksX3_canCome_4 4 rfl rfl)
theorem dX3_canCome_96 : decode cX3_canCome 96 = .ok (.isub, 1) := dk_100 (dk_at dksX3_canCome_4 5 rfl rfl)
theorem dX3_canCome_97 : decode cX3_canCome 97 = .ok (.aload_n 0, 1) := dk_42 (dk_at dksX3_canCome_4 6 rfl rfl)
theorem dX3_canCome_98 : decode cX3_canCome 98 = .ok (.getfield 13, 3) := dk_180 0 13 (dk_at dksX3_canCome_4 7 rfl rfl)
theorem dX3_canCome_101 : decode cX3_canCome 101 = .ok (.if_icmp .gt 7, 3) := dk_163 0 7 (dk_at dksX3_canCome_4 10 rfl rfl)
theorem dX3_canCome_104 : decode cX3_canCome 104 = .ok (.iconst 1, 1) := dk_4 (dk_at dksX3_canCome_4 13 rfl rfl)
theorem dX3_canCome_105 : decode cX3_canCome 105 = .ok (.goto 4, 3) := dk_167 0 4 (dk_at dksX3_canCome_4 14 rfl rfl)
theorem dX3_canCome_108 : decode cX3_canCome 108 = .ok (.iconst 0, 1) := dk_3 (dk_at dksX3_canCome_4 17 rfl rfl)
theorem dX3_canCome_109 : decode cX3_canCome 109 = .ok (.invokevirtual 181, 3) := dk_182 0 181 (dk_at dksX3_canCome_4 18 rfl rfl)
theorem dX3_canCome_112 : decode cX3_canCome 112 = .ok (.ireturn, 1) := dk_172 (dk_at dksX3_canCome_4 21 rfl rfl)
abbrev cX3_isKind : ByteArray := prog_13_method_7_code
def yX3_isKind : MethodName := ⟨RX3, "isKind", "(I)Z"⟩
def dkwX3_isKind_0 : List UInt8 := [26, 3, 16, 7, 184, 0, 87, 172]
abbrev dktX3_isKind_0 : List UInt8 := dkwX3_isKind_0 ++ []
theorem dksX3_isKind_0 : cX3_isKind.data.toList.drop 0 = dktX3_isKind_0 := by decide +kernel
theorem dX3_isKind_0 : decode cX3_isKind 0 = .ok (.iload_n 0, 1) := dk_26 (dk_at dksX3_isKind_0 0 rfl rfl)
theorem dX3_isKind_1 : decode cX3_isKind 1 = .ok (.iconst 0, 1) := dk_3 (dk_at dksX3_isKind_0 1 rfl rfl)
theorem dX3_isKind_2 : decode cX3_isKind 2 = .ok (.bipush 7, 2) := dk_16 7 (dk_at dksX3_isKind_0 2 rfl rfl)
theorem dX3_isKind_4 : decode cX3_isKind 4 = .ok (.invokestatic 87, 3) := dk_184 0 87 (dk_at dksX3_isKind_0 4 rfl rfl)
theorem dX3_isKind_7 : decode cX3_isKind 7 = .ok (.ireturn, 1) := dk_172 (dk_at dksX3_isKind_0 7 rfl rfl)
abbrev cX3_comes : ByteArray := prog_13_method_34_code
def yX3_comes : MethodName := ⟨RX3, "comes", "(IIIII)V"⟩
def dkwX3_comes_9 : List UInt8 := [180, 0, 91, 4, 96, 181, 0, 91, 177]
abbrev dktX3_comes_9 : List UInt8 := dkwX3_comes_9 ++ []
def dkwX3_comes_8 : List UInt8 := [21, 6, 42, 180, 0, 101, 164, 0, 8, 21, 6, 167, 0, 7, 42, 180, 0, 101, 181, 0, 101, 42, 89]
abbrev dktX3_comes_8 : List UInt8 := dkwX3_comes_8 ++ dktX3_comes_9
def dkwX3_comes_7 : List UInt8 := [21, 7, 4, 100, 46, 79, 132, 7, 255, 167, 255, 176, 42, 180, 0, 36, 21, 7, 42, 180, 0, 91, 79, 42]
abbrev dktX3_comes_7 : List UInt8 := dkwX3_comes_7 ++ dktX3_comes_8
def dkwX3_comes_6 : List UInt8 := [180, 0, 36, 21, 7, 4, 100, 46, 46, 27, 164, 0, 25, 42, 180, 0, 36, 21, 7, 42, 180, 0, 36]
abbrev dktX3_comes_6 : List UInt8 := dkwX3_comes_6 ++ dktX3_comes_7
def dkwX3_comes_5 : List UInt8 := [42, 180, 0, 20, 42, 180, 0, 36, 21, 7, 4, 100, 46, 46, 21, 6, 160, 0, 43, 42, 180, 0, 17, 42]
abbrev dktX3_comes_5 : List UInt8 := dkwX3_comes_5 ++ dktX3_comes_6
def dkwX3_comes_4 : List UInt8 := [21, 7, 158, 0, 81, 42, 180, 0, 20, 42, 180, 0, 36, 21, 7, 4, 100, 46, 46, 21, 6, 163, 0, 40]
abbrev dktX3_comes_4 : List UInt8 := dkwX3_comes_4 ++ dktX3_comes_5
def dkwX3_comes_3 : List UInt8 := [180, 0, 91, 21, 6, 42, 180, 0, 101, 162, 0, 7, 4, 167, 0, 4, 3, 84, 42, 180, 0, 91, 54, 7]
abbrev dktX3_comes_3 : List UInt8 := dkwX3_comes_3 ++ dktX3_comes_4
def dkwX3_comes_2 : List UInt8 := [180, 0, 91, 21, 4, 79, 42, 180, 0, 29, 42, 180, 0, 91, 21, 5, 79, 42, 180, 0, 32, 42]
abbrev dktX3_comes_2 : List UInt8 := dkwX3_comes_2 ++ dktX3_comes_3
def dkwX3_comes_1 : List UInt8 := [42, 180, 0, 91, 21, 6, 79, 42, 180, 0, 23, 42, 180, 0, 91, 29, 79, 42, 180, 0, 26, 42]
abbrev dktX3_comes_1 : List UInt8 := dkwX3_comes_1 ++ dktX3_comes_2
def dkwX3_comes_0 : List UInt8 := [28, 42, 180, 0, 7, 27, 46, 96, 54, 6, 42, 180, 0, 17, 42, 180, 0, 91, 27, 79, 42, 180, 0, 20]
abbrev dktX3_comes_0 : List UInt8 := dkwX3_comes_0 ++ dktX3_comes_1
theorem dksX3_comes_0 : cX3_comes.data.toList.drop 0 = dktX3_comes_0 := by decide +kernel
theorem dksX3_comes_1 : cX3_comes.data.toList.drop 24 = dktX3_comes_1 := dk_seg dksX3_comes_0 24 rfl rfl
theorem dksX3_comes_2 : cX3_comes.data.toList.drop 46 = dktX3_comes_2 := dk_seg dksX3_comes_1 22 rfl rfl
theorem dksX3_comes_3 : cX3_comes.data.toList.drop 68 = dktX3_comes_3 := dk_seg dksX3_comes_2 22 rfl rfl
theorem dksX3_comes_4 : cX3_comes.data.toList.drop 92 = dktX3_comes_4 := dk_seg dksX3_comes_3 24 rfl rfl
theorem dksX3_comes_5 : cX3_comes.data.toList.drop 116 = dktX3_comes_5 := dk_seg dksX3_comes_4 24 rfl rfl
theorem dksX3_comes_6 : cX3_comes.data.toList.drop 140 = dktX3_comes_6 := dk_seg dksX3_comes_5 24 rfl rfl
theorem dksX3_comes_7 : cX3_comes.data.toList.drop 163 = dktX3_comes_7 := dk_seg dksX3_comes_6 23 rfl rfl
theorem dksX3_comes_8 : cX3_comes.data.toList.drop 187 = dktX3_comes_8 := dk_seg dksX3_comes_7 24 rfl rfl
theorem dksX3_comes_9 : cX3_comes.data.toList.drop 210 = dktX3_comes_9 := dk_seg dksX3_comes_8 23 rfl rfl
theorem dX3_comes_0 : decode cX3_comes 0 = .ok (.iload_n 2, 1) := dk_28 (dk_at dksX3_comes_0 0 rfl rfl)
theorem dX3_comes_1 : decode cX3_comes 1 = .ok (.aload_n 0, 1) := dk_42 (dk_at dksX3_comes_0 1 rfl rfl)
theorem dX3_comes_2 : decode cX3_comes 2 = .ok (.getfield 7, 3) := dk_180 0 7 (dk_at dksX3_comes_0 2 rfl rfl)
theorem dX3_comes_5 : decode cX3_comes 5 = .ok (.iload_n 1, 1) := dk_27 (dk_at dksX3_comes_0 5 rfl rfl)
theorem dX3_comes_6 : decode cX3_comes 6 = .ok (.iaload, 1) := dk_46 (dk_at dksX3_comes_0 6 rfl rfl)
theorem dX3_comes_7 : decode cX3_comes 7 = .ok (.iadd, 1) := dk_96 (dk_at dksX3_comes_0 7 rfl rfl)
theorem dX3_comes_8 : decode cX3_comes 8 = .ok (.istore 6, 2) := dk_54 6 (dk_at dksX3_comes_0 8 rfl rfl)
theorem dX3_comes_10 : decode cX3_comes 10 = .ok (.aload_n 0, 1) := dk_42 (dk_at dksX3_comes_0 10 rfl rfl)
theorem dX3_comes_11 : decode cX3_comes 11 = .ok (.getfield 17, 3) := dk_180 0 17 (dk_at dksX3_comes_0 11 rfl rfl)
theorem dX3_comes_14 : decode cX3_comes 14 = .ok (.aload_n 0, 1) := dk_42 (dk_at dksX3_comes_0 14 rfl rfl)
theorem dX3_comes_15 : decode cX3_comes 15 = .ok (.getfield 91, 3) := dk_180 0 91 (dk_at dksX3_comes_0 15 rfl rfl)
theorem dX3_comes_18 : decode cX3_comes 18 = .ok (.iload_n 1, 1) := dk_27 (dk_at dksX3_comes_0 18 rfl rfl)
theorem dX3_comes_19 : decode cX3_comes 19 = .ok (.iastore, 1) := dk_79 (dk_at dksX3_comes_0 19 rfl rfl)
theorem dX3_comes_20 : decode cX3_comes 20 = .ok (.aload_n 0, 1) := dk_42 (dk_at dksX3_comes_0 20 rfl rfl)
theorem dX3_comes_21 : decode cX3_comes 21 = .ok (.getfield 20, 3) := dk_180 0 20 (dk_at dksX3_comes_0 21 rfl rfl)
theorem dX3_comes_24 : decode cX3_comes 24 = .ok (.aload_n 0, 1) := dk_42 (dk_at dksX3_comes_1 0 rfl rfl)
theorem dX3_comes_25 : decode cX3_comes 25 = .ok (.getfield 91, 3) := dk_180 0 91 (dk_at dksX3_comes_1 1 rfl rfl)
theorem dX3_comes_28 : decode cX3_comes 28 = .ok (.iload 6, 2) := dk_21 6 (dk_at dksX3_comes_1 4 rfl rfl)
theorem dX3_comes_30 : decode cX3_comes 30 = .ok (.iastore, 1) := dk_79 (dk_at dksX3_comes_1 6 rfl rfl)
theorem dX3_comes_31 : decode cX3_comes 31 = .ok (.aload_n 0, 1) := dk_42 (dk_at dksX3_comes_1 7 rfl rfl)
theorem dX3_comes_32 : decode cX3_comes 32 = .ok (.getfield 23, 3) := dk_180 0 23 (dk_at dksX3_comes_1 8 rfl rfl)
theorem dX3_comes_35 : decode cX3_comes 35 = .ok (.aload_n 0, 1) := dk_42 (dk_at dksX3_comes_1 11 rfl rfl)
theorem dX3_comes_36 : decode cX3_comes 36 = .ok (.getfield 91, 3) := dk_180 0 91 (dk_at dksX3_comes_1 12 rfl rfl)
theorem dX3_comes_39 : decode cX3_comes 39 = .ok (.iload_n 3, 1) := dk_29 (dk_at dksX3_comes_1 15 rfl rfl)
theorem dX3_comes_40 : decode cX3_comes 40 = .ok (.iastore, 1) := dk_79 (dk_at dksX3_comes_1 16 rfl rfl)
theorem dX3_comes_41 : decode cX3_comes 41 = .ok (.aload_n 0, 1) := dk_42 (dk_at dksX3_comes_1 17 rfl rfl)
theorem dX3_comes_42 : decode cX3_comes 42 = .ok (.getfield 26, 3) := dk_180 0 26 (dk_at dksX3_comes_1 18 rfl rfl)
theorem dX3_comes_45 : decode cX3_comes 45 = .ok (.aload_n 0, 1) := dk_42 (dk_at dksX3_comes_1 21 rfl rfl)
theorem dX3_comes_46 : decode cX3_comes 46 = .ok (.getfield 91, 3) := dk_180 0 91 (dk_at dksX3_comes_2 0 rfl rfl)
theorem dX3_comes_49 : decode cX3_comes 49 = .ok (.iload 4, 2) := dk_21 4 (dk_at dksX3_comes_2 3 rfl rfl)
theorem dX3_comes_51 : decode cX3_comes 51 = .ok (.iastore, 1) := dk_79 (dk_at dksX3_comes_2 5 rfl rfl)
theorem dX3_comes_52 : decode cX3_comes 52 = .ok (.aload_n 0, 1) := dk_42 (dk_at dksX3_comes_2 6 rfl rfl)
theorem dX3_comes_53 : decode cX3_comes 53 = .ok (.getfield 29, 3) := dk_180 0 29 (dk_at dksX3_comes_2 7 rfl rfl)
theorem dX3_comes_56 : decode cX3_comes 56 = .ok (.aload_n 0, 1) := dk_42 (dk_at dksX3_comes_2 10 rfl rfl)
theorem dX3_comes_57 : decode cX3_comes 57 = .ok (.getfield 91, 3) := dk_180 0 91 (dk_at dksX3_comes_2 11 rfl rfl)
theorem dX3_comes_60 : decode cX3_comes 60 = .ok (.iload 5, 2) := dk_21 5 (dk_at dksX3_comes_2 14 rfl rfl)
theorem dX3_comes_62 : decode cX3_comes 62 = .ok (.iastore, 1) := dk_79 (dk_at dksX3_comes_2 16 rfl rfl)
theorem dX3_comes_63 : decode cX3_comes 63 = .ok (.aload_n 0, 1) := dk_42 (dk_at dksX3_comes_2 17 rfl rfl)
theorem dX3_comes_64 : decode cX3_comes 64 = .ok (.getfield 32, 3) := dk_180 0 32 (dk_at dksX3_comes_2 18 rfl rfl)
theorem dX3_comes_67 : decode cX3_comes 67 = .ok (.aload_n 0, 1) := dk_42 (dk_at dksX3_comes_2 21 rfl rfl)
theorem dX3_comes_68 : decode cX3_comes 68 = .ok (.getfield 91, 3) := dk_180 0 91 (dk_at dksX3_comes_3 0 rfl rfl)
theorem dX3_comes_71 : decode cX3_comes 71 = .ok (.iload 6, 2) := dk_21 6 (dk_at dksX3_comes_3 3 rfl rfl)
theorem dX3_comes_73 : decode cX3_comes 73 = .ok (.aload_n 0, 1) := dk_42 (dk_at dksX3_comes_3 5 rfl rfl)
theorem dX3_comes_74 : decode cX3_comes 74 = .ok (.getfield 101, 3) := dk_180 0 101 (dk_at dksX3_comes_3 6 rfl rfl)
theorem dX3_comes_77 : decode cX3_comes 77 = .ok (.if_icmp .ge 7, 3) := dk_162 0 7 (dk_at dksX3_comes_3 9 rfl rfl)
theorem dX3_comes_80 : decode cX3_comes 80 = .ok (.iconst 1, 1) := dk_4 (dk_at dksX3_comes_3 12 rfl rfl)
theorem dX3_comes_81 : decode cX3_comes 81 = .ok (.goto 4, 3) := dk_167 0 4 (dk_at dksX3_comes_3 13 rfl rfl)
theorem dX3_comes_84 : decode cX3_comes 84 = .ok (.iconst 0, 1) := dk_3 (dk_at dksX3_comes_3 16 rfl rfl)
theorem dX3_comes_85 : decode cX3_comes 85 = .ok (.bastore, 1) := dk_84 (dk_at dksX3_comes_3 17 rfl rfl)
theorem dX3_comes_86 : decode cX3_comes 86 = .ok (.aload_n 0, 1) := dk_42 (dk_at dksX3_comes_3 18 rfl rfl)
theorem dX3_comes_87 : decode cX3_comes 87 = .ok (.getfield 91, 3) := dk_180 0 91 (dk_at dksX3_comes_3 19 rfl rfl)
theorem dX3_comes_90 : decode cX3_comes 90 = .ok (.istore 7, 2) := dk_54 7 (dk_at dksX3_comes_3 22 rfl rfl)
theorem dX3_comes_92 : decode cX3_comes 92 = .ok (.iload 7, 2) := dk_21 7 (dk_at dksX3_comes_4 0 rfl rfl)
theorem dX3_comes_94 : decode cX3_comes 94 = .ok (.ifCond .le 81, 3) := dk_158 0 81 (dk_at dksX3_comes_4 2 rfl rfl)
theorem dX3_comes_97 : decode cX3_comes 97 = .ok (.aload_n 0, 1) := dk_42 (dk_at dksX3_comes_4 5 rfl rfl)
theorem dX3_comes_98 : decode cX3_comes 98 = .ok (.getfield 20, 3) := dk_180 0 20 (dk_at dksX3_comes_4 6 rfl rfl)
theorem dX3_comes_101 : decode cX3_comes 101 = .ok (.aload_n 0, 1) := dk_42 (dk_at dksX3_comes_4 9 rfl rfl)
theorem dX3_comes_102 : decode cX3_comes 102 = .ok (.getfield 36, 3) := dk_180 0 36 (dk_at dksX3_comes_4 10 rfl rfl)
theorem dX3_comes_105 : decode cX3_comes 105 = .ok (.iload 7, 2) := dk_21 7 (dk_at dksX3_comes_4 13 rfl rfl)
theorem dX3_comes_107 : decode cX3_comes 107 = .ok (.iconst 1, 1) := dk_4 (dk_at dksX3_comes_4 15 rfl rfl)
theorem dX3_comes_108 : decode cX3_comes 108 = .ok (.isub, 1) := dk_100 (dk_at dksX3_comes_4 16 rfl rfl)
theorem dX3_comes_109 : decode cX3_comes 109 = .ok (.iaload, 1) := dk_46 (dk_at dksX3_comes_4 17 rfl rfl)
theorem dX3_comes_110 : decode cX3_comes 110 = .ok (.iaload, 1) := dk_46 (dk_at dksX3_comes_4 18 rfl rfl)
theorem dX3_comes_111 : decode cX3_comes 111 = .ok (.iload 6, 2) := dk_21 6 (dk_at dksX3_comes_4 19 rfl rfl)
theorem dX3_comes_113 : decode cX3_comes 113 = .ok (.if_icmp .gt 40, 3) := dk_163 0 40 (dk_at dksX3_comes_4 21 rfl rfl)
theorem dX3_comes_116 : decode cX3_comes 116 = .ok (.aload_n 0, 1) := dk_42 (dk_at dksX3_comes_5 0 rfl rfl)
theorem dX3_comes_117 : decode cX3_comes 117 = .ok (.getfield 20, 3) := dk_180 0 20 (dk_at dksX3_comes_5 1 rfl rfl)
theorem dX3_comes_120 : decode cX3_comes 120 = .ok (.aload_n 0, 1) := dk_42 (dk_at dksX3_comes_5 4 rfl rfl)
theorem dX3_comes_121 : decode cX3_comes 121 = .ok (.getfield 36, 3) := dk_180 0 36 (dk_at dksX3_comes_5 5 rfl rfl)
theorem dX3_comes_124 : decode cX3_comes 124 = .ok (.iload 7, 2) := dk_21 7 (dk_at dksX3_comes_5 8 rfl rfl)
theorem dX3_comes_126 : decode cX3_comes 126 = .ok (.iconst 1, 1) := dk_4 (dk_at dksX3_comes_5 10 rfl rfl)
theorem dX3_comes_127 : decode cX3_comes 127 = .ok (.isub, 1) := dk_100 (dk_at dksX3_comes_5 11 rfl rfl)
theorem dX3_comes_128 : decode cX3_comes 128 = .ok (.iaload, 1) := dk_46 (dk_at dksX3_comes_5 12 rfl rfl)
theorem dX3_comes_129 : decode cX3_comes 129 = .ok (.iaload, 1) := dk_46 (dk_at dksX3_comes_5 13 rfl rfl)
theorem dX3_comes_130 : decode cX3_comes 130 = .ok (.iload 6, 2) := dk_21 6 (dk_at dksX3_comes_5 14 rfl rfl)
theorem dX3_comes_132 : decode cX3_comes 132 = .ok (.if_icmp .ne 43, 3) := dk_160 0 43 (dk_at dksX3_comes_5 16 rfl rfl)
theorem dX3_comes_135 : decode cX3_comes 135 = .ok (.aload_n 0, 1) := dk_42 (dk_at dksX3_comes_5 19 rfl rfl)
theorem dX3_comes_136 : decode cX3_comes 136 = .ok (.getfield 17, 3) := dk_180 0 17 (dk_at dksX3_comes_5 20 rfl rfl)
theorem dX3_comes_139 : decode cX3_comes 139 = .ok (.aload_n 0, 1) := dk_42 (dk_at dksX3_comes_5 23 rfl rfl)
theorem dX3_comes_140 : decode cX3_comes 140 = .ok (.getfield 36, 3) := dk_180 0 36 (dk_at dksX3_comes_6 0 rfl rfl)
theorem dX3_comes_143 : decode cX3_comes 143 = .ok (.iload 7, 2) := dk_21 7 (dk_at dksX3_comes_6 3 rfl rfl)
theorem dX3_comes_145 : decode cX3_comes 145 = .ok (.iconst 1, 1) := dk_4 (dk_at dksX3_comes_6 5 rfl rfl)
theorem dX3_comes_146 : decode cX3_comes 146 = .ok (.isub, 1) := dk_100 (dk_at dksX3_comes_6 6 rfl rfl)
theorem dX3_comes_147 : decode cX3_comes 147 = .ok (.iaload, 1) := dk_46 (dk_at dksX3_comes_6 7 rfl rfl)
theorem dX3_comes_148 : decode cX3_comes 148 = .ok (.iaload, 1) := dk_46 (dk_at dksX3_comes_6 8 rfl rfl)
theorem dX3_comes_149 : decode cX3_comes 149 = .ok (.iload_n 1, 1) := dk_27 (dk_at dksX3_comes_6 9 rfl rfl)
theorem dX3_comes_150 : decode cX3_comes 150 = .ok (.if_icmp .le 25, 3) := dk_164 0 25 (dk_at dksX3_comes_6 10 rfl rfl)
theorem dX3_comes_153 : decode cX3_comes 153 = .ok (.aload_n 0, 1) := dk_42 (dk_at dksX3_comes_6 13 rfl rfl)
theorem dX3_comes_154 : decode cX3_comes 154 = .ok (.getfield 36, 3) := dk_180 0 36 (dk_at dksX3_comes_6 14 rfl rfl)
theorem dX3_comes_157 : decode cX3_comes 157 = .ok (.iload 7, 2) := dk_21 7 (dk_at dksX3_comes_6 17 rfl rfl)
theorem dX3_comes_159 : decode cX3_comes 159 = .ok (.aload_n 0, 1) := dk_42 (dk_at dksX3_comes_6 19 rfl rfl)
theorem dX3_comes_160 : decode cX3_comes 160 = .ok (.getfield 36, 3) := dk_180 0 36 (dk_at dksX3_comes_6 20 rfl rfl)
theorem dX3_comes_163 : decode cX3_comes 163 = .ok (.iload 7, 2) := dk_21 7 (dk_at dksX3_comes_7 0 rfl rfl)
theorem dX3_comes_165 : decode cX3_comes 165 = .ok (.iconst 1, 1) := dk_4 (dk_at dksX3_comes_7 2 rfl rfl)
theorem dX3_comes_166 : decode cX3_comes 166 = .ok (.isub, 1) := dk_100 (dk_at dksX3_comes_7 3 rfl rfl)
theorem dX3_comes_167 : decode cX3_comes 167 = .ok (.iaload, 1) := dk_46 (dk_at dksX3_comes_7 4 rfl rfl)
theorem dX3_comes_168 : decode cX3_comes 168 = .ok (.iastore, 1) := dk_79 (dk_at dksX3_comes_7 5 rfl rfl)
theorem dX3_comes_169 : decode cX3_comes 169 = .ok (.iinc 7 (-1), 3) := dk_132 7 255 (dk_at dksX3_comes_7 6 rfl rfl)
theorem dX3_comes_172 : decode cX3_comes 172 = .ok (.goto (-80), 3) := dk_167 255 176 (dk_at dksX3_comes_7 9 rfl rfl)
theorem dX3_comes_175 : decode cX3_comes 175 = .ok (.aload_n 0, 1) := dk_42 (dk_at dksX3_comes_7 12 rfl rfl)
theorem dX3_comes_176 : decode cX3_comes 176 = .ok (.getfield 36, 3) := dk_180 0 36 (dk_at dksX3_comes_7 13 rfl rfl)
theorem dX3_comes_179 : decode cX3_comes 179 = .ok (.iload 7, 2) := dk_21 7 (dk_at dksX3_comes_7 16 rfl rfl)
theorem dX3_comes_181 : decode cX3_comes 181 = .ok (.aload_n 0, 1) := dk_42 (dk_at dksX3_comes_7 18 rfl rfl)
theorem dX3_comes_182 : decode cX3_comes 182 = .ok (.getfield 91, 3) := dk_180 0 91 (dk_at dksX3_comes_7 19 rfl rfl)
theorem dX3_comes_185 : decode cX3_comes 185 = .ok (.iastore, 1) := dk_79 (dk_at dksX3_comes_7 22 rfl rfl)
theorem dX3_comes_186 : decode cX3_comes 186 = .ok (.aload_n 0, 1) := dk_42 (dk_at dksX3_comes_7 23 rfl rfl)
theorem dX3_comes_187 : decode cX3_comes 187 = .ok (.iload 6, 2) := dk_21 6 (dk_at dksX3_comes_8 0 rfl rfl)
theorem dX3_comes_189 : decode cX3_comes 189 = .ok (.aload_n 0, 1) := dk_42 (dk_at dksX3_comes_8 2 rfl rfl)
theorem dX3_comes_190 : decode cX3_comes 190 = .ok (.getfield 101, 3) := dk_180 0 101 (dk_at dksX3_comes_8 3 rfl rfl)
theorem dX3_comes_193 : decode cX3_comes 193 = .ok (.if_icmp .le 8, 3) := dk_164 0 8 (dk_at dksX3_comes_8 6 rfl rfl)
theorem dX3_comes_196 : decode cX3_comes 196 = .ok (.iload 6, 2) := dk_21 6 (dk_at dksX3_comes_8 9 rfl rfl)
theorem dX3_comes_198 : decode cX3_comes 198 = .ok (.goto 7, 3) := dk_167 0 7 (dk_at dksX3_comes_8 11 rfl rfl)
theorem dX3_comes_201 : decode cX3_comes 201 = .ok (.aload_n 0, 1) := dk_42 (dk_at dksX3_comes_8 14 rfl rfl)
theorem dX3_comes_202 : decode cX3_comes 202 = .ok (.getfield 101, 3) := dk_180 0 101 (dk_at dksX3_comes_8 15 rfl rfl)
theorem dX3_comes_205 : decode cX3_comes 205 = .ok (.putfield 101, 3) := dk_181 0 101 (dk_at dksX3_comes_8 18 rfl rfl)
theorem dX3_comes_208 : decode cX3_comes 208 = .ok (.aload_n 0, 1) := dk_42 (dk_at dksX3_comes_8 21 rfl rfl)
theorem dX3_comes_209 : decode cX3_comes 209 = .ok (.dup, 1) := dk_89 (dk_at dksX3_comes_8 22 rfl rfl)
theorem dX3_comes_210 : decode cX3_comes 210 = .ok (.getfield 91, 3) := dk_180 0 91 (dk_at dksX3_comes_9 0 rfl rfl)
theorem dX3_comes_213 : decode cX3_comes 213 = .ok (.iconst 1, 1) := dk_4 (dk_at dksX3_comes_9 3 rfl rfl)
theorem dX3_comes_214 : decode cX3_comes 214 = .ok (.iadd, 1) := dk_96 (dk_at dksX3_comes_9 4 rfl rfl)
theorem dX3_comes_215 : decode cX3_comes 215 = .ok (.putfield 91, 3) := dk_181 0 91 (dk_at dksX3_comes_9 5 rfl rfl)
theorem dX3_comes_218 : decode cX3_comes 218 = .ok (.return_, 1) := dk_177 (dk_at dksX3_comes_9 8 rfl rfl)
abbrev cX3_keepsAll : ByteArray := prog_13_method_30_code
def yX3_keepsAll : MethodName := ⟨RX3, "keepsAll", "(I)I"⟩
def dkwX3_keepsAll_1 : List UInt8 := [167, 255, 236, 28, 172]
abbrev dktX3_keepsAll_1 : List UInt8 := dkwX3_keepsAll_1 ++ []
def dkwX3_keepsAll_0 : List UInt8 := [3, 61, 3, 62, 29, 42, 180, 0, 94, 162, 0, 18, 28, 42, 29, 27, 182, 0, 174, 96, 61, 132, 3, 1]
abbrev dktX3_keepsAll_0 : List UInt8 := dkwX3_keepsAll_0 ++ dktX3_keepsAll_1
theorem dksX3_keepsAll_0 : cX3_keepsAll.data.toList.drop 0 = dktX3_keepsAll_0 := by decide +kernel
theorem dksX3_keepsAll_1 : cX3_keepsAll.data.toList.drop 24 = dktX3_keepsAll_1 := dk_seg dksX3_keepsAll_0 24 rfl rfl
theorem dX3_keepsAll_0 : decode cX3_keepsAll 0 = .ok (.iconst 0, 1) := dk_3 (dk_at dksX3_keepsAll_0 0 rfl rfl)
theorem dX3_keepsAll_1 : decode cX3_keepsAll 1 = .ok (.istore_n 2, 1) := dk_61 (dk_at dksX3_keepsAll_0 1 rfl rfl)
theorem dX3_keepsAll_2 : decode cX3_keepsAll 2 = .ok (.iconst 0, 1) := dk_3 (dk_at dksX3_keepsAll_0 2 rfl rfl)
theorem dX3_keepsAll_3 : decode cX3_keepsAll 3 = .ok (.istore_n 3, 1) := dk_62 (dk_at dksX3_keepsAll_0 3 rfl rfl)
theorem dX3_keepsAll_4 : decode cX3_keepsAll 4 = .ok (.iload_n 3, 1) := dk_29 (dk_at dksX3_keepsAll_0 4 rfl rfl)
theorem dX3_keepsAll_5 : decode cX3_keepsAll 5 = .ok (.aload_n 0, 1) := dk_42 (dk_at dksX3_keepsAll_0 5 rfl rfl)
theorem dX3_keepsAll_6 : decode cX3_keepsAll 6 = .ok (.getfield 94, 3) := dk_180 0 94 (dk_at dksX3_keepsAll_0 6 rfl rfl)
theorem dX3_keepsAll_9 : decode cX3_keepsAll 9 = .ok (.if_icmp .ge 18, 3) := dk_162 0 18 (dk_at dksX3_keepsAll_0 9 rfl rfl)
theorem dX3_keepsAll_12 : decode cX3_keepsAll 12 = .ok (.iload_n 2, 1) := dk_28 (dk_at dksX3_keepsAll_0 12 rfl rfl)
theorem dX3_keepsAll_13 : decode cX3_keepsAll 13 = .ok (.aload_n 0, 1) := dk_42 (dk_at dksX3_keepsAll_0 13 rfl rfl)
theorem dX3_keepsAll_14 : decode cX3_keepsAll 14 = .ok (.iload_n 3, 1) := dk_29 (dk_at dksX3_keepsAll_0 14 rfl rfl)
theorem dX3_keepsAll_15 : decode cX3_keepsAll 15 = .ok (.iload_n 1, 1) := dk_27 (dk_at dksX3_keepsAll_0 15 rfl rfl)
theorem dX3_keepsAll_16 : decode cX3_keepsAll 16 = .ok (.invokevirtual 174, 3) := dk_182 0 174 (dk_at dksX3_keepsAll_0 16 rfl rfl)
theorem dX3_keepsAll_19 : decode cX3_keepsAll 19 = .ok (.iadd, 1) := dk_96 (dk_at dksX3_keepsAll_0 19 rfl rfl)
theorem dX3_keepsAll_20 : decode cX3_keepsAll 20 = .ok (.istore_n 2, 1) := dk_61 (dk_at dksX3_keepsAll_0 20 rfl rfl)
theorem dX3_keepsAll_21 : decode cX3_keepsAll 21 = .ok (.iinc 3 1, 3) := dk_132 3 1 (dk_at dksX3_keepsAll_0 21 rfl rfl)
theorem dX3_keepsAll_24 : decode cX3_keepsAll 24 = .ok (.goto (-20), 3) := dk_167 255 236 (dk_at dksX3_keepsAll_1 0 rfl rfl)
theorem dX3_keepsAll_27 : decode cX3_keepsAll 27 = .ok (.iload_n 2, 1) := dk_28 (dk_at dksX3_keepsAll_1 3 rfl rfl)
theorem dX3_keepsAll_28 : decode cX3_keepsAll 28 = .ok (.ireturn, 1) := dk_172 (dk_at dksX3_keepsAll_1 4 rfl rfl)
abbrev cX3_keeps : ByteArray := prog_13_method_29_code
def yX3_keeps : MethodName := ⟨RX3, "keeps", "(II)I"⟩
def dkwX3_keeps_7 : List UInt8 := [79, 42, 180, 0, 66, 21, 5, 42, 180, 0, 81, 21, 4, 46, 79, 132, 4, 1, 167, 255, 93, 29, 172]
abbrev dktX3_keeps_7 : List UInt8 := dkwX3_keeps_7 ++ []
def dkwX3_keeps_6 : List UInt8 := [180, 0, 69, 21, 5, 21, 6, 153, 0, 10, 42, 180, 0, 91, 167, 0, 10, 42, 180, 0, 69, 21, 5, 46]
abbrev dktX3_keeps_6 : List UInt8 := dkwX3_keeps_6 ++ dktX3_keeps_7
def dkwX3_keeps_5 : List UInt8 := [21, 6, 153, 0, 18, 42, 180, 0, 66, 21, 5, 46, 5, 159, 0, 7, 4, 167, 0, 4, 3, 96, 79, 42]
abbrev dktX3_keeps_5 : List UInt8 := dkwX3_keeps_5 ++ dktX3_keeps_6
def dkwX3_keeps_4 : List UInt8 := [5, 159, 0, 7, 4, 167, 0, 4, 3, 96, 62, 42, 180, 0, 63, 27, 92, 46, 21, 4, 28, 162, 0, 23]
abbrev dktX3_keeps_4 : List UInt8 := dkwX3_keeps_4 ++ dktX3_keeps_5
def dkwX3_keeps_3 : List UInt8 := [21, 4, 28, 162, 0, 29, 42, 180, 0, 66, 21, 5, 46, 5, 160, 0, 18, 42, 180, 0, 81, 21, 4, 46]
abbrev dktX3_keeps_3 : List UInt8 := dkwX3_keeps_3 ++ dktX3_keeps_4
def dkwX3_keeps_2 : List UInt8 := [180, 0, 66, 21, 5, 46, 42, 180, 0, 81, 21, 4, 46, 159, 0, 7, 4, 167, 0, 4, 3, 54, 6, 29]
abbrev dktX3_keeps_2 : List UInt8 := dkwX3_keeps_2 ++ dktX3_keeps_3
def dkwX3_keeps_1 : List UInt8 := [42, 180, 0, 91, 162, 0, 160, 16, 80, 27, 104, 21, 4, 96, 54, 5, 21, 4, 28, 162, 0, 20, 42]
abbrev dktX3_keeps_1 : List UInt8 := dkwX3_keeps_1 ++ dktX3_keeps_2
def dkwX3_keeps_0 : List UInt8 := [42, 182, 0, 164, 42, 42, 182, 0, 167, 181, 0, 157, 42, 27, 182, 0, 171, 3, 62, 3, 54, 4, 21, 4]
abbrev dktX3_keeps_0 : List UInt8 := dkwX3_keeps_0 ++ dktX3_keeps_1
theorem dksX3_keeps_0 : cX3_keeps.data.toList.drop 0 = dktX3_keeps_0 := by decide +kernel
theorem dksX3_keeps_1 : cX3_keeps.data.toList.drop 24 = dktX3_keeps_1 := dk_seg dksX3_keeps_0 24 rfl rfl
theorem dksX3_keeps_2 : cX3_keeps.data.toList.drop 47 = dktX3_keeps_2 := dk_seg dksX3_keeps_1 23 rfl rfl
theorem dksX3_keeps_3 : cX3_keeps.data.toList.drop 71 = dktX3_keeps_3 := dk_seg dksX3_keeps_2 24 rfl rfl
theorem dksX3_keeps_4 : cX3_keeps.data.toList.drop 95 = dktX3_keeps_4 := dk_seg dksX3_keeps_3 24 rfl rfl
theorem dksX3_keeps_5 : cX3_keeps.data.toList.drop 119 = dktX3_keeps_5 := dk_seg dksX3_keeps_4 24 rfl rfl
theorem dksX3_keeps_6 : cX3_keeps.data.toList.drop 143 = dktX3_keeps_6 := dk_seg dksX3_keeps_5 24 rfl rfl
theorem dksX3_keeps_7 : cX3_keeps.data.toList.drop 167 = dktX3_keeps_7 := dk_seg dksX3_keeps_6 24 rfl rfl
theorem dX3_keeps_0 : decode cX3_keeps 0 = .ok (.aload_n 0, 1) := dk_42 (dk_at dksX3_keeps_0 0 rfl rfl)
theorem dX3_keeps_1 : decode cX3_keeps 1 = .ok (.invokevirtual 164, 3) := dk_182 0 164 (dk_at dksX3_keeps_0 1 rfl rfl)
theorem dX3_keeps_4 : decode cX3_keeps 4 = .ok (.aload_n 0, 1) := dk_42 (dk_at dksX3_keeps_0 4 rfl rfl)
theorem dX3_keeps_5 : decode cX3_keeps 5 = .ok (.aload_n 0, 1) := dk_42 (dk_at dksX3_keeps_0 5 rfl rfl)
theorem dX3_keeps_6 : decode cX3_keeps 6 = .ok (.invokevirtual 167, 3) := dk_182 0 167 (dk_at dksX3_keeps_0 6 rfl rfl)
theorem dX3_keeps_9 : decode cX3_keeps 9 = .ok (.putfield 157, 3) := dk_181 0 157 (dk_at dksX3_keeps_0 9 rfl rfl)
theorem dX3_keeps_12 : decode cX3_keeps 12 = .ok (.aload_n 0, 1) := dk_42 (dk_at dksX3_keeps_0 12 rfl rfl)
theorem dX3_keeps_13 : decode cX3_keeps 13 = .ok (.iload_n 1, 1) := dk_27 (dk_at dksX3_keeps_0 13 rfl rfl)
theorem dX3_keeps_14 : decode cX3_keeps 14 = .ok (.invokevirtual 171, 3) := dk_182 0 171 (dk_at dksX3_keeps_0 14 rfl rfl)
theorem dX3_keeps_17 : decode cX3_keeps 17 = .ok (.iconst 0, 1) := dk_3 (dk_at dksX3_keeps_0 17 rfl rfl)
theorem dX3_keeps_18 : decode cX3_keeps 18 = .ok (.istore_n 3, 1) := dk_62 (dk_at dksX3_keeps_0 18 rfl rfl)
theorem dX3_keeps_19 : decode cX3_keeps 19 = .ok (.iconst 0, 1) := dk_3 (dk_at dksX3_keeps_0 19 rfl rfl)
theorem dX3_keeps_20 : decode cX3_keeps 20 = .ok (.istore 4, 2) := dk_54 4 (dk_at dksX3_keeps_0 20 rfl rfl)
theorem dX3_keeps_22 : decode cX3_keeps 22 = .ok (.iload 4, 2) := dk_21 4 (dk_at dksX3_keeps_0 22 rfl rfl)
theorem dX3_keeps_24 : decode cX3_keeps 24 = .ok (.aload_n 0, 1) := dk_42 (dk_at dksX3_keeps_1 0 rfl rfl)
theorem dX3_keeps_25 : decode cX3_keeps 25 = .ok (.getfield 91, 3) := dk_180 0 91 (dk_at dksX3_keeps_1 1 rfl rfl)
theorem dX3_keeps_28 : decode cX3_keeps 28 = .ok (.if_icmp .ge 160, 3) := dk_162 0 160 (dk_at dksX3_keeps_1 4 rfl rfl)
theorem dX3_keeps_31 : decode cX3_keeps 31 = .ok (.bipush 80, 2) := dk_16 80 (dk_at dksX3_keeps_1 7 rfl rfl)
theorem dX3_keeps_33 : decode cX3_keeps 33 = .ok (.iload_n 1, 1) := dk_27 (dk_at dksX3_keeps_1 9 rfl rfl)
theorem dX3_keeps_34 : decode cX3_keeps 34 = .ok (.imul, 1) := dk_104 (dk_at dksX3_keeps_1 10 rfl rfl)
theorem dX3_keeps_35 : decode cX3_keeps 35 = .ok (.iload 4, 2) := dk_21 4 (dk_at dksX3_keeps_1 11 rfl rfl)
theorem dX3_keeps_37 : decode cX3_keeps 37 = .ok (.iadd, 1) := dk_96 (dk_at dksX3_keeps_1 13 rfl rfl)
theorem dX3_keeps_38 : decode cX3_keeps 38 = .ok (.istore 5, 2) := dk_54 5 (dk_at dksX3_keeps_1 14 rfl rfl)
theorem dX3_keeps_40 : decode cX3_keeps 40 = .ok (.iload 4, 2) := dk_21 4 (dk_at dksX3_keeps_1 16 rfl rfl)
theorem dX3_keeps_42 : decode cX3_keeps 42 = .ok (.iload_n 2, 1) := dk_28 (dk_at dksX3_keeps_1 18 rfl rfl)
theorem dX3_keeps_43 : decode cX3_keeps 43 = .ok (.if_icmp .ge 20, 3) := dk_162 0 20 (dk_at dksX3_keeps_1 19 rfl rfl)
theorem dX3_keeps_46 : decode cX3_keeps 46 = .ok (.aload_n 0, 1) := dk_42 (dk_at dksX3_keeps_1 22 rfl rfl)
theorem dX3_keeps_47 : decode cX3_keeps 47 = .ok (.getfield 66, 3) := dk_180 0 66 (dk_at dksX3_keeps_2 0 rfl rfl)
theorem dX3_keeps_50 : decode cX3_keeps 50 = .ok (.iload 5, 2) := dk_21 5 (dk_at dksX3_keeps_2 3 rfl rfl)
theorem dX3_keeps_52 : decode cX3_keeps 52 = .ok (.iaload, 1) := dk_46 (dk_at dksX3_keeps_2 5 rfl rfl)
theorem dX3_keeps_53 : decode cX3_keeps 53 = .ok (.aload_n 0, 1) := dk_42 (dk_at dksX3_keeps_2 6 rfl rfl)
theorem dX3_keeps_54 : decode cX3_keeps 54 = .ok (.getfield 81, 3) := dk_180 0 81 (dk_at dksX3_keeps_2 7 rfl rfl)
theorem dX3_keeps_57 : decode cX3_keeps 57 = .ok (.iload 4, 2) := dk_21 4 (dk_at dksX3_keeps_2 10 rfl rfl)
theorem dX3_keeps_59 : decode cX3_keeps 59 = .ok (.iaload, 1) := dk_46 (dk_at dksX3_keeps_2 12 rfl rfl)
theorem dX3_keeps_60 : decode cX3_keeps 60 = .ok (.if_icmp .eq 7, 3) := dk_159 0 7 (dk_at dksX3_keeps_2 13 rfl rfl)
theorem dX3_keeps_63 : decode cX3_keeps 63 = .ok (.iconst 1, 1) := dk_4 (dk_at dksX3_keeps_2 16 rfl rfl)
theorem dX3_keeps_64 : decode cX3_keeps 64 = .ok (.goto 4, 3) := dk_167 0 4 (dk_at dksX3_keeps_2 17 rfl rfl)
theorem dX3_keeps_67 : decode cX3_keeps 67 = .ok (.iconst 0, 1) := dk_3 (dk_at dksX3_keeps_2 20 rfl rfl)
theorem dX3_keeps_68 : decode cX3_keeps 68 = .ok (.istore 6, 2) := dk_54 6 (dk_at dksX3_keeps_2 21 rfl rfl)
theorem dX3_keeps_70 : decode cX3_keeps 70 = .ok (.iload_n 3, 1) := dk_29 (dk_at dksX3_keeps_2 23 rfl rfl)
theorem dX3_keeps_71 : decode cX3_keeps 71 = .ok (.iload 4, 2) := dk_21 4 (dk_at dksX3_keeps_3 0 rfl rfl)
theorem dX3_keeps_73 : decode cX3_keeps 73 = .ok (.iload_n 2, 1) := dk_28 (dk_at dksX3_keeps_3 2 rfl rfl)
theorem dX3_keeps_74 : decode cX3_keeps 74 = .ok (.if_icmp .ge 29, 3) := dk_162 0 29 (dk_at dksX3_keeps_3 3 rfl rfl)
theorem dX3_keeps_77 : decode cX3_keeps 77 = .ok (.aload_n 0, 1) := dk_42 (dk_at dksX3_keeps_3 6 rfl rfl)
theorem dX3_keeps_78 : decode cX3_keeps 78 = .ok (.getfield 66, 3) := dk_180 0 66 (dk_at dksX3_keeps_3 7 rfl rfl)
theorem dX3_keeps_81 : decode cX3_keeps 81 = .ok (.iload 5, 2) := dk_21 5 (dk_at dksX3_keeps_3 10 rfl rfl)
theorem dX3_keeps_83 : decode cX3_keeps 83 = .ok (.iaload, 1) := dk_46 (dk_at dksX3_keeps_3 12 rfl rfl)
theorem dX3_keeps_84 : decode cX3_keeps 84 = .ok (.iconst 2, 1) := dk_5 (dk_at dksX3_keeps_3 13 rfl rfl)
theorem dX3_keeps_85 : decode cX3_keeps 85 = .ok (.if_icmp .ne 18, 3) := dk_160 0 18 (dk_at dksX3_keeps_3 14 rfl rfl)
theorem dX3_keeps_88 : decode cX3_keeps 88 = .ok (.aload_n 0, 1) := dk_42 (dk_at dksX3_keeps_3 17 rfl rfl)
theorem dX3_keeps_89 : decode cX3_keeps 89 = .ok (.getfield 81, 3) := dk_180 0 81 (dk_at dksX3_keeps_3 18 rfl rfl)
theorem dX3_keeps_92 : decode cX3_keeps 92 = .ok (.iload 4, 2) := dk_21 4 (dk_at dksX3_keeps_3 21 rfl rfl)
theorem dX3_keeps_94 : decode cX3_keeps 94 = .ok (.iaload, 1) := dk_46 (dk_at dksX3_keeps_3 23 rfl rfl)
theorem dX3_keeps_95 : decode cX3_keeps 95 = .ok (.iconst 2, 1) := dk_5 (dk_at dksX3_keeps_4 0 rfl rfl)
theorem dX3_keeps_96 : decode cX3_keeps 96 = .ok (.if_icmp .eq 7, 3) := dk_159 0 7 (dk_at dksX3_keeps_4 1 rfl rfl)
theorem dX3_keeps_99 : decode cX3_keeps 99 = .ok (.iconst 1, 1) := dk_4 (dk_at dksX3_keeps_4 4 rfl rfl)
theorem dX3_keeps_100 : decode cX3_keeps 100 = .ok (.goto 4, 3) := dk_167 0 4 (dk_at dksX3_keeps_4 5 rfl rfl)
theorem dX3_keeps_103 : decode cX3_keeps 103 = .ok (.iconst 0, 1) := dk_3 (dk_at dksX3_keeps_4 8 rfl rfl)
theorem dX3_keeps_104 : decode cX3_keeps 104 = .ok (.iadd, 1) := dk_96 (dk_at dksX3_keeps_4 9 rfl rfl)
theorem dX3_keeps_105 : decode cX3_keeps 105 = .ok (.istore_n 3, 1) := dk_62 (dk_at dksX3_keeps_4 10 rfl rfl)
theorem dX3_keeps_106 : decode cX3_keeps 106 = .ok (.aload_n 0, 1) := dk_42 (dk_at dksX3_keeps_4 11 rfl rfl)
theorem dX3_keeps_107 : decode cX3_keeps 107 = .ok (.getfield 63, 3) := dk_180 0 63 (dk_at dksX3_keeps_4 12 rfl rfl)
theorem dX3_keeps_110 : decode cX3_keeps 110 = .ok (.iload_n 1, 1) := dk_27 (dk_at dksX3_keeps_4 15 rfl rfl)
theorem dX3_keeps_111 : decode cX3_keeps 111 = .ok (.dup2, 1) := dk_92 (dk_at dksX3_keeps_4 16 rfl rfl)
theorem dX3_keeps_112 : decode cX3_keeps 112 = .ok (.iaload, 1) := dk_46 (dk_at dksX3_keeps_4 17 rfl rfl)
theorem dX3_keeps_113 : decode cX3_keeps 113 = .ok (.iload 4, 2) := dk_21 4 (dk_at dksX3_keeps_4 18 rfl rfl)
theorem dX3_keeps_115 : decode cX3_keeps 115 = .ok (.iload_n 2, 1) := dk_28 (dk_at dksX3_keeps_4 20 rfl rfl)
theorem dX3_keeps_116 : decode cX3_keeps 116 = .ok (.if_icmp .ge 23, 3) := dk_162 0 23 (dk_at dksX3_keeps_4 21 rfl rfl)
theorem dX3_keeps_119 : decode cX3_keeps 119 = .ok (.iload 6, 2) := dk_21 6 (dk_at dksX3_keeps_5 0 rfl rfl)
theorem dX3_keeps_121 : decode cX3_keeps 121 = .ok (.ifCond .eq 18, 3) := dk_153 0 18 (dk_at dksX3_keeps_5 2 rfl rfl)
theorem dX3_keeps_124 : decode cX3_keeps 124 = .ok (.aload_n 0, 1) := dk_42 (dk_at dksX3_keeps_5 5 rfl rfl)
theorem dX3_keeps_125 : decode cX3_keeps 125 = .ok (.getfield 66, 3) := dk_180 0 66 (dk_at dksX3_keeps_5 6 rfl rfl)
theorem dX3_keeps_128 : decode cX3_keeps 128 = .ok (.iload 5, 2) := dk_21 5 (dk_at dksX3_keeps_5 9 rfl rfl)
theorem dX3_keeps_130 : decode cX3_keeps 130 = .ok (.iaload, 1) := dk_46 (dk_at dksX3_keeps_5 11 rfl rfl)
theorem dX3_keeps_131 : decode cX3_keeps 131 = .ok (.iconst 2, 1) := dk_5 (dk_at dksX3_keeps_5 12 rfl rfl)
theorem dX3_keeps_132 : decode cX3_keeps 132 = .ok (.if_icmp .eq 7, 3) := dk_159 0 7 (dk_at dksX3_keeps_5 13 rfl rfl)
theorem dX3_keeps_135 : decode cX3_keeps 135 = .ok (.iconst 1, 1) := dk_4 (dk_at dksX3_keeps_5 16 rfl rfl)
theorem dX3_keeps_136 : decode cX3_keeps 136 = .ok (.goto 4, 3) := dk_167 0 4 (dk_at dksX3_keeps_5 17 rfl rfl)
theorem dX3_keeps_139 : decode cX3_keeps 139 = .ok (.iconst 0, 1) := dk_3 (dk_at dksX3_keeps_5 20 rfl rfl)
theorem dX3_keeps_140 : decode cX3_keeps 140 = .ok (.iadd, 1) := dk_96 (dk_at dksX3_keeps_5 21 rfl rfl)
theorem dX3_keeps_141 : decode cX3_keeps 141 = .ok (.iastore, 1) := dk_79 (dk_at dksX3_keeps_5 22 rfl rfl)
theorem dX3_keeps_142 : decode cX3_keeps 142 = .ok (.aload_n 0, 1) := dk_42 (dk_at dksX3_keeps_5 23 rfl rfl)
theorem dX3_keeps_143 : decode cX3_keeps 143 = .ok (.getfield 69, 3) := dk_180 0 69 (dk_at dksX3_keeps_6 0 rfl rfl)
theorem dX3_keeps_146 : decode cX3_keeps 146 = .ok (.iload 5, 2) := dk_21 5 (dk_at dksX3_keeps_6 3 rfl rfl)
theorem dX3_keeps_148 : decode cX3_keeps 148 = .ok (.iload 6, 2) := dk_21 6 (dk_at dksX3_keeps_6 5 rfl rfl)
theorem dX3_keeps_150 : decode cX3_keeps 150 = .ok (.ifCond .eq 10, 3) := dk_153 0 10 (dk_at dksX3_keeps_6 7 rfl rfl)
theorem dX3_keeps_153 : decode cX3_keeps 153 = .ok (.aload_n 0, 1) := dk_42 (dk_at dksX3_keeps_6 10 rfl rfl)
theorem dX3_keeps_154 : decode cX3_keeps 154 = .ok (.getfield 91, 3) := dk_180 0 91 (dk_at dksX3_keeps_6 11 rfl rfl)
theorem dX3_keeps_157 : decode cX3_keeps 157 = .ok (.goto 10, 3) := dk_167 0 10 (dk_at dksX3_keeps_6 14 rfl rfl)
theorem dX3_keeps_160 : decode cX3_keeps 160 = .ok (.aload_n 0, 1) := dk_42 (dk_at dksX3_keeps_6 17 rfl rfl)
theorem dX3_keeps_161 : decode cX3_keeps 161 = .ok (.getfield 69, 3) := dk_180 0 69 (dk_at dksX3_keeps_6 18 rfl rfl)
theorem dX3_keeps_164 : decode cX3_keeps 164 = .ok (.iload 5, 2) := dk_21 5 (dk_at dksX3_keeps_6 21 rfl rfl)
theorem dX3_keeps_166 : decode cX3_keeps 166 = .ok (.iaload, 1) := dk_46 (dk_at dksX3_keeps_6 23 rfl rfl)
theorem dX3_keeps_167 : decode cX3_keeps 167 = .ok (.iastore, 1) := dk_79 (dk_at dksX3_keeps_7 0 rfl rfl)
theorem dX3_keeps_168 : decode cX3_keeps 168 = .ok (.aload_n 0, 1) := dk_42 (dk_at dksX3_keeps_7 1 rfl rfl)
theorem dX3_keeps_169 : decode cX3_keeps 169 = .ok (.getfield 66, 3) := dk_180 0 66 (dk_at dksX3_keeps_7 2 rfl rfl)
theorem dX3_keeps_172 : decode cX3_keeps 172 = .ok (.iload 5, 2) := dk_21 5 (dk_at dksX3_keeps_7 5 rfl rfl)
theorem dX3_keeps_174 : decode cX3_keeps 174 = .ok (.aload_n 0, 1) := dk_42 (dk_at dksX3_keeps_7 7 rfl rfl)
theorem dX3_keeps_175 : decode cX3_keeps 175 = .ok (.getfield 81, 3) := dk_180 0 81 (dk_at dksX3_keeps_7 8 rfl rfl)
theorem dX3_keeps_178 : decode cX3_keeps 178 = .ok (.iload 4, 2) := dk_21 4 (dk_at dksX3_keeps_7 11 rfl rfl)
theorem dX3_keeps_180 : decode cX3_keeps 180 = .ok (.iaload, 1) := dk_46 (dk_at dksX3_keeps_7 13 rfl rfl)
theorem dX3_keeps_181 : decode cX3_keeps 181 = .ok (.iastore, 1) := dk_79 (dk_at dksX3_keeps_7 14 rfl rfl)
theorem dX3_keeps_182 : decode cX3_keeps 182 = .ok (.iinc 4 1, 3) := dk_132 4 1 (dk_at dksX3_keeps_7 15 rfl rfl)
theorem dX3_keeps_185 : decode cX3_keeps 185 = .ok (.goto (-163), 3) := dk_167 255 93 (dk_at dksX3_keeps_7 18 rfl rfl)
theorem dX3_keeps_188 : decode cX3_keeps 188 = .ok (.iload_n 3, 1) := dk_29 (dk_at dksX3_keeps_7 21 rfl rfl)
theorem dX3_keeps_189 : decode cX3_keeps 189 = .ok (.ireturn, 1) := dk_172 (dk_at dksX3_keeps_7 22 rfl rfl)
abbrev cX3_lines : ByteArray := prog_13_method_27_code
def yX3_lines : MethodName := ⟨RX3, "lines", "()V"⟩
def dkwX3_lines_1 : List UInt8 := [180, 0, 36, 27, 46, 79, 132, 1, 1, 167, 255, 233, 177]
abbrev dktX3_lines_1 : List UInt8 := dkwX3_lines_1 ++ []
def dkwX3_lines_0 : List UInt8 := [42, 42, 180, 0, 91, 181, 0, 154, 3, 60, 27, 42, 180, 0, 91, 162, 0, 21, 42, 180, 0, 75, 27, 42]
abbrev dktX3_lines_0 : List UInt8 := dkwX3_lines_0 ++ dktX3_lines_1
theorem dksX3_lines_0 : cX3_lines.data.toList.drop 0 = dktX3_lines_0 := by decide +kernel
theorem dksX3_lines_1 : cX3_lines.data.toList.drop 24 = dktX3_lines_1 := dk_seg dksX3_lines_0 24 rfl rfl
theorem dX3_lines_0 : decode cX3_lines 0 = .ok (.aload_n 0, 1) := dk_42 (dk_at dksX3_lines_0 0 rfl rfl)
theorem dX3_lines_1 : decode cX3_lines 1 = .ok (.aload_n 0, 1) := dk_42 (dk_at dksX3_lines_0 1 rfl rfl)
theorem dX3_lines_2 : decode cX3_lines 2 = .ok (.getfield 91, 3) := dk_180 0 91 (dk_at dksX3_lines_0 2 rfl rfl)
theorem dX3_lines_5 : decode cX3_lines 5 = .ok (.putfield 154, 3) := dk_181 0 154 (dk_at dksX3_lines_0 5 rfl rfl)
theorem dX3_lines_8 : decode cX3_lines 8 = .ok (.iconst 0, 1) := dk_3 (dk_at dksX3_lines_0 8 rfl rfl)
theorem dX3_lines_9 : decode cX3_lines 9 = .ok (.istore_n 1, 1) := dk_60 (dk_at dksX3_lines_0 9 rfl rfl)
theorem dX3_lines_10 : decode cX3_lines 10 = .ok (.iload_n 1, 1) := dk_27 (dk_at dksX3_lines_0 10 rfl rfl)
theorem dX3_lines_11 : decode cX3_lines 11 = .ok (.aload_n 0, 1) := dk_42 (dk_at dksX3_lines_0 11 rfl rfl)
theorem dX3_lines_12 : decode cX3_lines 12 = .ok (.getfield 91, 3) := dk_180 0 91 (dk_at dksX3_lines_0 12 rfl rfl)
theorem dX3_lines_15 : decode cX3_lines 15 = .ok (.if_icmp .ge 21, 3) := dk_162 0 21 (dk_at dksX3_lines_0 15 rfl rfl)
theorem dX3_lines_18 : decode cX3_lines 18 = .ok (.aload_n 0, 1) := dk_42 (dk_at dksX3_lines_0 18 rfl rfl)
theorem dX3_lines_19 : decode cX3_lines 19 = .ok (.getfield 75, 3) := dk_180 0 75 (dk_at dksX3_lines_0 19 rfl rfl)
theorem dX3_lines_22 : decode cX3_lines 22 = .ok (.iload_n 1, 1) := dk_27 (dk_at dksX3_lines_0 22 rfl rfl)
theorem dX3_lines_23 : decode cX3_lines 23 = .ok (.aload_n 0, 1) := dk_42 (dk_at dksX3_lines_0 23 rfl rfl)
theorem dX3_lines_24 : decode cX3_lines 24 = .ok (.getfield 36, 3) := dk_180 0 36 (dk_at dksX3_lines_1 0 rfl rfl)
theorem dX3_lines_27 : decode cX3_lines 27 = .ok (.iload_n 1, 1) := dk_27 (dk_at dksX3_lines_1 3 rfl rfl)
theorem dX3_lines_28 : decode cX3_lines 28 = .ok (.iaload, 1) := dk_46 (dk_at dksX3_lines_1 4 rfl rfl)
theorem dX3_lines_29 : decode cX3_lines 29 = .ok (.iastore, 1) := dk_79 (dk_at dksX3_lines_1 5 rfl rfl)
theorem dX3_lines_30 : decode cX3_lines 30 = .ok (.iinc 1 1, 3) := dk_132 1 1 (dk_at dksX3_lines_1 6 rfl rfl)
theorem dX3_lines_33 : decode cX3_lines 33 = .ok (.goto (-23), 3) := dk_167 255 233 (dk_at dksX3_lines_1 9 rfl rfl)
theorem dX3_lines_36 : decode cX3_lines 36 = .ok (.return_, 1) := dk_177 (dk_at dksX3_lines_1 12 rfl rfl)
abbrev cX3_idsOf : ByteArray := prog_13_method_28_code
def yX3_idsOf : MethodName := ⟨RX3, "idsOf", "()I"⟩
def dkwX3_idsOf_1 : List UInt8 := [167, 0, 11, 4, 42, 180, 0, 26, 28, 46, 120, 128, 60, 132, 2, 1, 167, 255, 220, 27, 172]
abbrev dktX3_idsOf_1 : List UInt8 := dkwX3_idsOf_1 ++ []
def dkwX3_idsOf_0 : List UInt8 := [3, 60, 3, 61, 28, 42, 180, 0, 91, 162, 0, 34, 27, 42, 180, 0, 26, 28, 46, 2, 160, 0, 7, 3]
abbrev dktX3_idsOf_0 : List UInt8 := dkwX3_idsOf_0 ++ dktX3_idsOf_1
theorem dksX3_idsOf_0 : cX3_idsOf.data.toList.drop 0 = dktX3_idsOf_0 := by decide +kernel
theorem dksX3_idsOf_1 : cX3_idsOf.data.toList.drop 24 = dktX3_idsOf_1 := dk_seg dksX3_idsOf_0 24 rfl rfl
theorem dX3_idsOf_0 : decode cX3_idsOf 0 = .ok (.iconst 0, 1) := dk_3 (dk_at dksX3_idsOf_0 0 rfl rfl)
theorem dX3_idsOf_1 : decode cX3_idsOf 1 = .ok (.istore_n 1, 1) := dk_60 (dk_at dksX3_idsOf_0 1 rfl rfl)
theorem dX3_idsOf_2 : decode cX3_idsOf 2 = .ok (.iconst 0, 1) := dk_3 (dk_at dksX3_idsOf_0 2 rfl rfl)
theorem dX3_idsOf_3 : decode cX3_idsOf 3 = .ok (.istore_n 2, 1) := dk_61 (dk_at dksX3_idsOf_0 3 rfl rfl)
theorem dX3_idsOf_4 : decode cX3_idsOf 4 = .ok (.iload_n 2, 1) := dk_28 (dk_at dksX3_idsOf_0 4 rfl rfl)
theorem dX3_idsOf_5 : decode cX3_idsOf 5 = .ok (.aload_n 0, 1) := dk_42 (dk_at dksX3_idsOf_0 5 rfl rfl)
theorem dX3_idsOf_6 : decode cX3_idsOf 6 = .ok (.getfield 91, 3) := dk_180 0 91 (dk_at dksX3_idsOf_0 6 rfl rfl)
theorem dX3_idsOf_9 : decode cX3_idsOf 9 = .ok (.if_icmp .ge 34, 3) := dk_162 0 34 (dk_at dksX3_idsOf_0 9 rfl rfl)
theorem dX3_idsOf_12 : decode cX3_idsOf 12 = .ok (.iload_n 1, 1) := dk_27 (dk_at dksX3_idsOf_0 12 rfl rfl)
theorem dX3_idsOf_13 : decode cX3_idsOf 13 = .ok (.aload_n 0, 1) := dk_42 (dk_at dksX3_idsOf_0 13 rfl rfl)
theorem dX3_idsOf_14 : decode cX3_idsOf 14 = .ok (.getfield 26, 3) := dk_180 0 26 (dk_at dksX3_idsOf_0 14 rfl rfl)
theorem dX3_idsOf_17 : decode cX3_idsOf 17 = .ok (.iload_n 2, 1) := dk_28 (dk_at dksX3_idsOf_0 17 rfl rfl)
theorem dX3_idsOf_18 : decode cX3_idsOf 18 = .ok (.iaload, 1) := dk_46 (dk_at dksX3_idsOf_0 18 rfl rfl)
theorem dX3_idsOf_19 : decode cX3_idsOf 19 = .ok (.iconst (-1), 1) := dk_2 (dk_at dksX3_idsOf_0 19 rfl rfl)
theorem dX3_idsOf_20 : decode cX3_idsOf 20 = .ok (.if_icmp .ne 7, 3) := dk_160 0 7 (dk_at dksX3_idsOf_0 20 rfl rfl)
theorem dX3_idsOf_23 : decode cX3_idsOf 23 = .ok (.iconst 0, 1) := dk_3 (dk_at dksX3_idsOf_0 23 rfl rfl)
theorem dX3_idsOf_24 : decode cX3_idsOf 24 = .ok (.goto 11, 3) := dk_167 0 11 (dk_at dksX3_idsOf_1 0 rfl rfl)
theorem dX3_idsOf_27 : decode cX3_idsOf 27 = .ok (.iconst 1, 1) := dk_4 (dk_at dksX3_idsOf_1 3 rfl rfl)
theorem dX3_idsOf_28 : decode cX3_idsOf 28 = .ok (.aload_n 0, 1) := dk_42 (dk_at dksX3_idsOf_1 4 rfl rfl)
theorem dX3_idsOf_29 : decode cX3_idsOf 29 = .ok (.getfield 26, 3) := dk_180 0 26 (dk_at dksX3_idsOf_1 5 rfl rfl)
theorem dX3_idsOf_32 : decode cX3_idsOf 32 = .ok (.iload_n 2, 1) := dk_28 (dk_at dksX3_idsOf_1 8 rfl rfl)
theorem dX3_idsOf_33 : decode cX3_idsOf 33 = .ok (.iaload, 1) := dk_46 (dk_at dksX3_idsOf_1 9 rfl rfl)
theorem dX3_idsOf_34 : decode cX3_idsOf 34 = .ok (.ishl, 1) := dk_120 (dk_at dksX3_idsOf_1 10 rfl rfl)
theorem dX3_idsOf_35 : decode cX3_idsOf 35 = .ok (.ior, 1) := dk_128 (dk_at dksX3_idsOf_1 11 rfl rfl)
theorem dX3_idsOf_36 : decode cX3_idsOf 36 = .ok (.istore_n 1, 1) := dk_60 (dk_at dksX3_idsOf_1 12 rfl rfl)
theorem dX3_idsOf_37 : decode cX3_idsOf 37 = .ok (.iinc 2 1, 3) := dk_132 2 1 (dk_at dksX3_idsOf_1 13 rfl rfl)
theorem dX3_idsOf_40 : decode cX3_idsOf 40 = .ok (.goto (-36), 3) := dk_167 255 220 (dk_at dksX3_idsOf_1 16 rfl rfl)
theorem dX3_idsOf_43 : decode cX3_idsOf 43 = .ok (.iload_n 1, 1) := dk_27 (dk_at dksX3_idsOf_1 19 rfl rfl)
theorem dX3_idsOf_44 : decode cX3_idsOf 44 = .ok (.ireturn, 1) := dk_172 (dk_at dksX3_idsOf_1 20 rfl rfl)
abbrev cX3_finds : ByteArray := prog_13_method_26_code
def yX3_finds : MethodName := ⟨RX3, "finds", "(I)V"⟩
def dkwX3_finds_12 : List UInt8 := [167, 255, 17, 177]
abbrev dktX3_finds_12 : List UInt8 := dkwX3_finds_12 ++ []
def dkwX3_finds_11 : List UInt8 := [46, 46, 42, 28, 21, 5, 182, 0, 107, 184, 0, 111, 79, 132, 5, 1, 167, 255, 210, 132, 3, 1]
abbrev dktX3_finds_11 : List UInt8 := dkwX3_finds_11 ++ dktX3_finds_12
def dkwX3_finds_10 : List UInt8 := [162, 0, 43, 42, 180, 0, 81, 42, 180, 0, 72, 21, 5, 46, 42, 180, 0, 81, 42, 180, 0, 72, 21, 5]
abbrev dktX3_finds_10 : List UInt8 := dkwX3_finds_10 ++ dktX3_finds_11
def dkwX3_finds_9 : List UInt8 := [167, 255, 139, 21, 4, 153, 0, 8, 42, 27, 182, 0, 160, 3, 54, 5, 21, 5, 42, 180, 0, 117]
abbrev dktX3_finds_9 : List UInt8 := dkwX3_finds_9 ++ dktX3_finds_10
def dkwX3_finds_8 : List UInt8 := [79, 42, 89, 180, 0, 117, 21, 6, 153, 0, 7, 4, 167, 0, 4, 3, 96, 181, 0, 117, 132, 5, 1]
abbrev dktX3_finds_8 : List UInt8 := dkwX3_finds_8 ++ dktX3_finds_9
def dkwX3_finds_7 : List UInt8 := [21, 6, 153, 0, 13, 42, 180, 0, 75, 21, 5, 46, 167, 0, 12, 42, 180, 0, 72, 42, 180, 0, 117, 46]
abbrev dktX3_finds_7 : List UInt8 := dkwX3_finds_7 ++ dktX3_finds_8
def dkwX3_finds_6 : List UInt8 := [21, 5, 46, 46, 2, 160, 0, 7, 4, 167, 0, 4, 3, 54, 6, 42, 180, 0, 72, 42, 180, 0, 117]
abbrev dktX3_finds_6 : List UInt8 := dkwX3_finds_6 ++ dktX3_finds_7
def dkwX3_finds_5 : List UInt8 := [180, 0, 26, 42, 180, 0, 75, 21, 5, 46, 46, 29, 159, 0, 19, 42, 180, 0, 26, 42, 180, 0, 75]
abbrev dktX3_finds_5 : List UInt8 := dkwX3_finds_5 ++ dktX3_finds_6
def dkwX3_finds_4 : List UInt8 := [21, 5, 42, 180, 0, 154, 162, 0, 114, 21, 4, 153, 0, 109, 42, 180, 0, 54, 27, 51, 153, 0, 35, 42]
abbrev dktX3_finds_4 : List UInt8 := dkwX3_finds_4 ++ dktX3_finds_5
def dkwX3_finds_3 : List UInt8 := [3, 167, 0, 12, 29, 154, 0, 7, 4, 167, 0, 4, 3, 54, 4, 42, 3, 181, 0, 117, 3, 54, 5]
abbrev dktX3_finds_3 : List UInt8 := dkwX3_finds_3 ++ dktX3_finds_4
def dkwX3_finds_2 : List UInt8 := [180, 0, 54, 27, 51, 153, 0, 23, 42, 180, 0, 157, 29, 122, 4, 126, 4, 160, 0, 7, 4, 167, 0, 16]
abbrev dktX3_finds_2 : List UInt8 := dkwX3_finds_2 ++ dktX3_finds_3
def dkwX3_finds_1 : List UInt8 := [180, 0, 75, 29, 46, 4, 79, 132, 3, 1, 167, 255, 233, 3, 62, 29, 16, 10, 162, 0, 239, 42]
abbrev dktX3_finds_1 : List UInt8 := dkwX3_finds_1 ++ dktX3_finds_2
def dkwX3_finds_0 : List UInt8 := [42, 180, 0, 60, 27, 46, 4, 100, 61, 3, 62, 29, 42, 180, 0, 154, 162, 0, 21, 42, 180, 0, 81, 42]
abbrev dktX3_finds_0 : List UInt8 := dkwX3_finds_0 ++ dktX3_finds_1
theorem dksX3_finds_0 : cX3_finds.data.toList.drop 0 = dktX3_finds_0 := by decide +kernel
theorem dksX3_finds_1 : cX3_finds.data.toList.drop 24 = dktX3_finds_1 := dk_seg dksX3_finds_0 24 rfl rfl
theorem dksX3_finds_2 : cX3_finds.data.toList.drop 46 = dktX3_finds_2 := dk_seg dksX3_finds_1 22 rfl rfl
theorem dksX3_finds_3 : cX3_finds.data.toList.drop 70 = dktX3_finds_3 := dk_seg dksX3_finds_2 24 rfl rfl
theorem dksX3_finds_4 : cX3_finds.data.toList.drop 93 = dktX3_finds_4 := dk_seg dksX3_finds_3 23 rfl rfl
theorem dksX3_finds_5 : cX3_finds.data.toList.drop 117 = dktX3_finds_5 := dk_seg dksX3_finds_4 24 rfl rfl
theorem dksX3_finds_6 : cX3_finds.data.toList.drop 140 = dktX3_finds_6 := dk_seg dksX3_finds_5 23 rfl rfl
theorem dksX3_finds_7 : cX3_finds.data.toList.drop 163 = dktX3_finds_7 := dk_seg dksX3_finds_6 23 rfl rfl
theorem dksX3_finds_8 : cX3_finds.data.toList.drop 187 = dktX3_finds_8 := dk_seg dksX3_finds_7 24 rfl rfl
theorem dksX3_finds_9 : cX3_finds.data.toList.drop 210 = dktX3_finds_9 := dk_seg dksX3_finds_8 23 rfl rfl
theorem dksX3_finds_10 : cX3_finds.data.toList.drop 232 = dktX3_finds_10 := dk_seg dksX3_finds_9 22 rfl rfl
theorem dksX3_finds_11 : cX3_finds.data.toList.drop 256 = dktX3_finds_11 := dk_seg dksX3_finds_10 24 rfl rfl
theorem dksX3_finds_12 : cX3_finds.data.toList.drop 278 = dktX3_finds_12 := dk_seg dksX3_finds_11 22 rfl rfl
theorem dX3_finds_0 : decode cX3_finds 0 = .ok (.aload_n 0, 1) := dk_42 (dk_at dksX3_finds_0 0 rfl rfl)
theorem dX3_finds_1 : decode cX3_finds 1 = .ok (.getfield 60, 3) := dk_180 0 60 (dk_at dksX3_finds_0 1 rfl rfl)
theorem dX3_finds_4 : decode cX3_finds 4 = .ok (.iload_n 1, 1) := dk_27 (dk_at dksX3_finds_0 4 rfl rfl)
theorem dX3_finds_5 : decode cX3_finds 5 = .ok (.iaload, 1) := dk_46 (dk_at dksX3_finds_0 5 rfl rfl)
theorem dX3_finds_6 : decode cX3_finds 6 = .ok (.iconst 1, 1) := dk_4 (dk_at dksX3_finds_0 6 rfl rfl)
theorem dX3_finds_7 : decode cX3_finds 7 = .ok (.isub, 1) := dk_100 (dk_at dksX3_finds_0 7 rfl rfl)
theorem dX3_finds_8 : decode cX3_finds 8 = .ok (.istore_n 2, 1) := dk_61 (dk_at dksX3_finds_0 8 rfl rfl)
theorem dX3_finds_9 : decode cX3_finds 9 = .ok (.iconst 0, 1) := dk_3 (dk_at dksX3_finds_0 9 rfl rfl)
theorem dX3_finds_10 : decode cX3_finds 10 = .ok (.istore_n 3, 1) := dk_62 (dk_at dksX3_finds_0 10 rfl rfl)
theorem dX3_finds_11 : decode cX3_finds 11 = .ok (.iload_n 3, 1) := dk_29 (dk_at dksX3_finds_0 11 rfl rfl)
theorem dX3_finds_12 : decode cX3_finds 12 = .ok (.aload_n 0, 1) := dk_42 (dk_at dksX3_finds_0 12 rfl rfl)
theorem dX3_finds_13 : decode cX3_finds 13 = .ok (.getfield 154, 3) := dk_180 0 154 (dk_at dksX3_finds_0 13 rfl rfl)
theorem dX3_finds_16 : decode cX3_finds 16 = .ok (.if_icmp .ge 21, 3) := dk_162 0 21 (dk_at dksX3_finds_0 16 rfl rfl)
theorem dX3_finds_19 : decode cX3_finds 19 = .ok (.aload_n 0, 1) := dk_42 (dk_at dksX3_finds_0 19 rfl rfl)
theorem dX3_finds_20 : decode cX3_finds 20 = .ok (.getfield 81, 3) := dk_180 0 81 (dk_at dksX3_finds_0 20 rfl rfl)
theorem dX3_finds_23 : decode cX3_finds 23 = .ok (.aload_n 0, 1) := dk_42 (dk_at dksX3_finds_0 23 rfl rfl)
theorem dX3_finds_24 : decode cX3_finds 24 = .ok (.getfield 75, 3) := dk_180 0 75 (dk_at dksX3_finds_1 0 rfl rfl)
theorem dX3_finds_27 : decode cX3_finds 27 = .ok (.iload_n 3, 1) := dk_29 (dk_at dksX3_finds_1 3 rfl rfl)
theorem dX3_finds_28 : decode cX3_finds 28 = .ok (.iaload, 1) := dk_46 (dk_at dksX3_finds_1 4 rfl rfl)
theorem dX3_finds_29 : decode cX3_finds 29 = .ok (.iconst 1, 1) := dk_4 (dk_at dksX3_finds_1 5 rfl rfl)
theorem dX3_finds_30 : decode cX3_finds 30 = .ok (.iastore, 1) := dk_79 (dk_at dksX3_finds_1 6 rfl rfl)
theorem dX3_finds_31 : decode cX3_finds 31 = .ok (.iinc 3 1, 3) := dk_132 3 1 (dk_at dksX3_finds_1 7 rfl rfl)
theorem dX3_finds_34 : decode cX3_finds 34 = .ok (.goto (-23), 3) := dk_167 255 233 (dk_at dksX3_finds_1 10 rfl rfl)
theorem dX3_finds_37 : decode cX3_finds 37 = .ok (.iconst 0, 1) := dk_3 (dk_at dksX3_finds_1 13 rfl rfl)
theorem dX3_finds_38 : decode cX3_finds 38 = .ok (.istore_n 3, 1) := dk_62 (dk_at dksX3_finds_1 14 rfl rfl)
theorem dX3_finds_39 : decode cX3_finds 39 = .ok (.iload_n 3, 1) := dk_29 (dk_at dksX3_finds_1 15 rfl rfl)
theorem dX3_finds_40 : decode cX3_finds 40 = .ok (.bipush 10, 2) := dk_16 10 (dk_at dksX3_finds_1 16 rfl rfl)
theorem dX3_finds_42 : decode cX3_finds 42 = .ok (.if_icmp .ge 239, 3) := dk_162 0 239 (dk_at dksX3_finds_1 18 rfl rfl)
theorem dX3_finds_45 : decode cX3_finds 45 = .ok (.aload_n 0, 1) := dk_42 (dk_at dksX3_finds_1 21 rfl rfl)
theorem dX3_finds_46 : decode cX3_finds 46 = .ok (.getfield 54, 3) := dk_180 0 54 (dk_at dksX3_finds_2 0 rfl rfl)
theorem dX3_finds_49 : decode cX3_finds 49 = .ok (.iload_n 1, 1) := dk_27 (dk_at dksX3_finds_2 3 rfl rfl)
theorem dX3_finds_50 : decode cX3_finds 50 = .ok (.baload, 1) := dk_51 (dk_at dksX3_finds_2 4 rfl rfl)
theorem dX3_finds_51 : decode cX3_finds 51 = .ok (.ifCond .eq 23, 3) := dk_153 0 23 (dk_at dksX3_finds_2 5 rfl rfl)
theorem dX3_finds_54 : decode cX3_finds 54 = .ok (.aload_n 0, 1) := dk_42 (dk_at dksX3_finds_2 8 rfl rfl)
theorem dX3_finds_55 : decode cX3_finds 55 = .ok (.getfield 157, 3) := dk_180 0 157 (dk_at dksX3_finds_2 9 rfl rfl)
theorem dX3_finds_58 : decode cX3_finds 58 = .ok (.iload_n 3, 1) := dk_29 (dk_at dksX3_finds_2 12 rfl rfl)
theorem dX3_finds_59 : decode cX3_finds 59 = .ok (.ishr, 1) := dk_122 (dk_at dksX3_finds_2 13 rfl rfl)
theorem dX3_finds_60 : decode cX3_finds 60 = .ok (.iconst 1, 1) := dk_4 (dk_at dksX3_finds_2 14 rfl rfl)
theorem dX3_finds_61 : decode cX3_finds 61 = .ok (.iand, 1) := dk_126 (dk_at dksX3_finds_2 15 rfl rfl)
theorem dX3_finds_62 : decode cX3_finds 62 = .ok (.iconst 1, 1) := dk_4 (dk_at dksX3_finds_2 16 rfl rfl)
theorem dX3_finds_63 : decode cX3_finds 63 = .ok (.if_icmp .ne 7, 3) := dk_160 0 7 (dk_at dksX3_finds_2 17 rfl rfl)
theorem dX3_finds_66 : decode cX3_finds 66 = .ok (.iconst 1, 1) := dk_4 (dk_at dksX3_finds_2 20 rfl rfl)
theorem dX3_finds_67 : decode cX3_finds 67 = .ok (.goto 16, 3) := dk_167 0 16 (dk_at dksX3_finds_2 21 rfl rfl)
theorem dX3_finds_70 : decode cX3_finds 70 = .ok (.iconst 0, 1) := dk_3 (dk_at dksX3_finds_3 0 rfl rfl)
theorem dX3_finds_71 : decode cX3_finds 71 = .ok (.goto 12, 3) := dk_167 0 12 (dk_at dksX3_finds_3 1 rfl rfl)
theorem dX3_finds_74 : decode cX3_finds 74 = .ok (.iload_n 3, 1) := dk_29 (dk_at dksX3_finds_3 4 rfl rfl)
theorem dX3_finds_75 : decode cX3_finds 75 = .ok (.ifCond .ne 7, 3) := dk_154 0 7 (dk_at dksX3_finds_3 5 rfl rfl)
theorem dX3_finds_78 : decode cX3_finds 78 = .ok (.iconst 1, 1) := dk_4 (dk_at dksX3_finds_3 8 rfl rfl)
theorem dX3_finds_79 : decode cX3_finds 79 = .ok (.goto 4, 3) := dk_167 0 4 (dk_at dksX3_finds_3 9 rfl rfl)
theorem dX3_finds_82 : decode cX3_finds 82 = .ok (.iconst 0, 1) := dk_3 (dk_at dksX3_finds_3 12 rfl rfl)
theorem dX3_finds_83 : decode cX3_finds 83 = .ok (.istore 4, 2) := dk_54 4 (dk_at dksX3_finds_3 13 rfl rfl)
theorem dX3_finds_85 : decode cX3_finds 85 = .ok (.aload_n 0, 1) := dk_42 (dk_at dksX3_finds_3 15 rfl rfl)
theorem dX3_finds_86 : decode cX3_finds 86 = .ok (.iconst 0, 1) := dk_3 (dk_at dksX3_finds_3 16 rfl rfl)
theorem dX3_finds_87 : decode cX3_finds 87 = .ok (.putfield 117, 3) := dk_181 0 117 (dk_at dksX3_finds_3 17 rfl rfl)
theorem dX3_finds_90 : decode cX3_finds 90 = .ok (.iconst 0, 1) := dk_3 (dk_at dksX3_finds_3 20 rfl rfl)
theorem dX3_finds_91 : decode cX3_finds 91 = .ok (.istore 5, 2) := dk_54 5 (dk_at dksX3_finds_3 21 rfl rfl)
theorem dX3_finds_93 : decode cX3_finds 93 = .ok (.iload 5, 2) := dk_21 5 (dk_at dksX3_finds_4 0 rfl rfl)
theorem dX3_finds_95 : decode cX3_finds 95 = .ok (.aload_n 0, 1) := dk_42 (dk_at dksX3_finds_4 2 rfl rfl)
theorem dX3_finds_96 : decode cX3_finds 96 = .ok (.getfield 154, 3) := dk_180 0 154 (dk_at dksX3_finds_4 3 rfl rfl)
theorem dX3_finds_99 : decode cX3_finds 99 = .ok (.if_icmp .ge 114, 3) := dk_162 0 114 (dk_at dksX3_finds_4 6 rfl rfl)
theorem dX3_finds_102 : decode cX3_finds 102 = .ok (.iload 4, 2) := dk_21 4 (dk_at dksX3_finds_4 9 rfl rfl)
theorem dX3_finds_104 : decode cX3_finds 104 = .ok (.ifCond .eq 109, 3) := dk_153 0 109 (dk_at dksX3_finds_4 11 rfl rfl)
theorem dX3_finds_107 : decode cX3_finds 107 = .ok (.aload_n 0, 1) := dk_42 (dk_at dksX3_finds_4 14 rfl rfl)
theorem dX3_finds_108 : decode cX3_finds 108 = .ok (.getfield 54, 3) := dk_180 0 54 (dk_at dksX3_finds_4 15 rfl rfl)
theorem dX3_finds_111 : decode cX3_finds 111 = .ok (.iload_n 1, 1) := dk_27 (dk_at dksX3_finds_4 18 rfl rfl)
theorem dX3_finds_112 : decode cX3_finds 112 = .ok (.baload, 1) := dk_51 (dk_at dksX3_finds_4 19 rfl rfl)
theorem dX3_finds_113 : decode cX3_finds 113 = .ok (.ifCond .eq 35, 3) := dk_153 0 35 (dk_at dksX3_finds_4 20 rfl rfl)
theorem dX3_finds_116 : decode cX3_finds 116 = .ok (.aload_n 0, 1) := dk_42 (dk_at dksX3_finds_4 23 rfl rfl)
theorem dX3_finds_117 : decode cX3_finds 117 = .ok (.getfield 26, 3) := dk_180 0 26 (dk_at dksX3_finds_5 0 rfl rfl)
theorem dX3_finds_120 : decode cX3_finds 120 = .ok (.aload_n 0, 1) := dk_42 (dk_at dksX3_finds_5 3 rfl rfl)
theorem dX3_finds_121 : decode cX3_finds 121 = .ok (.getfield 75, 3) := dk_180 0 75 (dk_at dksX3_finds_5 4 rfl rfl)
theorem dX3_finds_124 : decode cX3_finds 124 = .ok (.iload 5, 2) := dk_21 5 (dk_at dksX3_finds_5 7 rfl rfl)
theorem dX3_finds_126 : decode cX3_finds 126 = .ok (.iaload, 1) := dk_46 (dk_at dksX3_finds_5 9 rfl rfl)
theorem dX3_finds_127 : decode cX3_finds 127 = .ok (.iaload, 1) := dk_46 (dk_at dksX3_finds_5 10 rfl rfl)
theorem dX3_finds_128 : decode cX3_finds 128 = .ok (.iload_n 3, 1) := dk_29 (dk_at dksX3_finds_5 11 rfl rfl)
theorem dX3_finds_129 : decode cX3_finds 129 = .ok (.if_icmp .eq 19, 3) := dk_159 0 19 (dk_at dksX3_finds_5 12 rfl rfl)
theorem dX3_finds_132 : decode cX3_finds 132 = .ok (.aload_n 0, 1) := dk_42 (dk_at dksX3_finds_5 15 rfl rfl)
theorem dX3_finds_133 : decode cX3_finds 133 = .ok (.getfield 26, 3) := dk_180 0 26 (dk_at dksX3_finds_5 16 rfl rfl)
theorem dX3_finds_136 : decode cX3_finds 136 = .ok (.aload_n 0, 1) := dk_42 (dk_at dksX3_finds_5 19 rfl rfl)
theorem dX3_finds_137 : decode cX3_finds 137 = .ok (.getfield 75, 3) := dk_180 0 75 (dk_at dksX3_finds_5 20 rfl rfl)
theorem dX3_finds_140 : decode cX3_finds 140 = .ok (.iload 5, 2) := dk_21 5 (dk_at dksX3_finds_6 0 rfl rfl)
theorem dX3_finds_142 : decode cX3_finds 142 = .ok (.iaload, 1) := dk_46 (dk_at dksX3_finds_6 2 rfl rfl)
theorem dX3_finds_143 : decode cX3_finds 143 = .ok (.iaload, 1) := dk_46 (dk_at dksX3_finds_6 3 rfl rfl)
theorem dX3_finds_144 : decode cX3_finds 144 = .ok (.iconst (-1), 1) := dk_2 (dk_at dksX3_finds_6 4 rfl rfl)
theorem dX3_finds_145 : decode cX3_finds 145 = .ok (.if_icmp .ne 7, 3) := dk_160 0 7 (dk_at dksX3_finds_6 5 rfl rfl)
theorem dX3_finds_148 : decode cX3_finds 148 = .ok (.iconst 1, 1) := dk_4 (dk_at dksX3_finds_6 8 rfl rfl)
theorem dX3_finds_149 : decode cX3_finds 149 = .ok (.goto 4, 3) := dk_167 0 4 (dk_at dksX3_finds_6 9 rfl rfl)
theorem dX3_finds_152 : decode cX3_finds 152 = .ok (.iconst 0, 1) := dk_3 (dk_at dksX3_finds_6 12 rfl rfl)
theorem dX3_finds_153 : decode cX3_finds 153 = .ok (.istore 6, 2) := dk_54 6 (dk_at dksX3_finds_6 13 rfl rfl)
theorem dX3_finds_155 : decode cX3_finds 155 = .ok (.aload_n 0, 1) := dk_42 (dk_at dksX3_finds_6 15 rfl rfl)
theorem dX3_finds_156 : decode cX3_finds 156 = .ok (.getfield 72, 3) := dk_180 0 72 (dk_at dksX3_finds_6 16 rfl rfl)
theorem dX3_finds_159 : decode cX3_finds 159 = .ok (.aload_n 0, 1) := dk_42 (dk_at dksX3_finds_6 19 rfl rfl)
theorem dX3_finds_160 : decode cX3_finds 160 = .ok (.getfield 117, 3) := dk_180 0 117 (dk_at dksX3_finds_6 20 rfl rfl)
theorem dX3_finds_163 : decode cX3_finds 163 = .ok (.iload 6, 2) := dk_21 6 (dk_at dksX3_finds_7 0 rfl rfl)
theorem dX3_finds_165 : decode cX3_finds 165 = .ok (.ifCond .eq 13, 3) := dk_153 0 13 (dk_at dksX3_finds_7 2 rfl rfl)
theorem dX3_finds_168 : decode cX3_finds 168 = .ok (.aload_n 0, 1) := dk_42 (dk_at dksX3_finds_7 5 rfl rfl)
theorem dX3_finds_169 : decode cX3_finds 169 = .ok (.getfield 75, 3) := dk_180 0 75 (dk_at dksX3_finds_7 6 rfl rfl)
theorem dX3_finds_172 : decode cX3_finds 172 = .ok (.iload 5, 2) := dk_21 5 (dk_at dksX3_finds_7 9 rfl rfl)
theorem dX3_finds_174 : decode cX3_finds 174 = .ok (.iaload, 1) := dk_46 (dk_at dksX3_finds_7 11 rfl rfl)
theorem dX3_finds_175 : decode cX3_finds 175 = .ok (.goto 12, 3) := dk_167 0 12 (dk_at dksX3_finds_7 12 rfl rfl)
theorem dX3_finds_178 : decode cX3_finds 178 = .ok (.aload_n 0, 1) := dk_42 (dk_at dksX3_finds_7 15 rfl rfl)
theorem dX3_finds_179 : decode cX3_finds 179 = .ok (.getfield 72, 3) := dk_180 0 72 (dk_at dksX3_finds_7 16 rfl rfl)
theorem dX3_finds_182 : decode cX3_finds 182 = .ok (.aload_n 0, 1) := dk_42 (dk_at dksX3_finds_7 19 rfl rfl)
theorem dX3_finds_183 : decode cX3_finds 183 = .ok (.getfield 117, 3) := dk_180 0 117 (dk_at dksX3_finds_7 20 rfl rfl)
theorem dX3_finds_186 : decode cX3_finds 186 = .ok (.iaload, 1) := dk_46 (dk_at dksX3_finds_7 23 rfl rfl)
theorem dX3_finds_187 : decode cX3_finds 187 = .ok (.iastore, 1) := dk_79 (dk_at dksX3_finds_8 0 rfl rfl)
theorem dX3_finds_188 : decode cX3_finds 188 = .ok (.aload_n 0, 1) := dk_42 (dk_at dksX3_finds_8 1 rfl rfl)
theorem dX3_finds_189 : decode cX3_finds 189 = .ok (.dup, 1) := dk_89 (dk_at dksX3_finds_8 2 rfl rfl)
theorem dX3_finds_190 : decode cX3_finds 190 = .ok (.getfield 117, 3) := dk_180 0 117 (dk_at dksX3_finds_8 3 rfl rfl)
theorem dX3_finds_193 : decode cX3_finds 193 = .ok (.iload 6, 2) := dk_21 6 (dk_at dksX3_finds_8 6 rfl rfl)
theorem dX3_finds_195 : decode cX3_finds 195 = .ok (.ifCond .eq 7, 3) := dk_153 0 7 (dk_at dksX3_finds_8 8 rfl rfl)
theorem dX3_finds_198 : decode cX3_finds 198 = .ok (.iconst 1, 1) := dk_4 (dk_at dksX3_finds_8 11 rfl rfl)
theorem dX3_finds_199 : decode cX3_finds 199 = .ok (.goto 4, 3) := dk_167 0 4 (dk_at dksX3_finds_8 12 rfl rfl)
theorem dX3_finds_202 : decode cX3_finds 202 = .ok (.iconst 0, 1) := dk_3 (dk_at dksX3_finds_8 15 rfl rfl)
theorem dX3_finds_203 : decode cX3_finds 203 = .ok (.iadd, 1) := dk_96 (dk_at dksX3_finds_8 16 rfl rfl)
theorem dX3_finds_204 : decode cX3_finds 204 = .ok (.putfield 117, 3) := dk_181 0 117 (dk_at dksX3_finds_8 17 rfl rfl)
theorem dX3_finds_207 : decode cX3_finds 207 = .ok (.iinc 5 1, 3) := dk_132 5 1 (dk_at dksX3_finds_8 20 rfl rfl)
theorem dX3_finds_210 : decode cX3_finds 210 = .ok (.goto (-117), 3) := dk_167 255 139 (dk_at dksX3_finds_9 0 rfl rfl)
theorem dX3_finds_213 : decode cX3_finds 213 = .ok (.iload 4, 2) := dk_21 4 (dk_at dksX3_finds_9 3 rfl rfl)
theorem dX3_finds_215 : decode cX3_finds 215 = .ok (.ifCond .eq 8, 3) := dk_153 0 8 (dk_at dksX3_finds_9 5 rfl rfl)
theorem dX3_finds_218 : decode cX3_finds 218 = .ok (.aload_n 0, 1) := dk_42 (dk_at dksX3_finds_9 8 rfl rfl)
theorem dX3_finds_219 : decode cX3_finds 219 = .ok (.iload_n 1, 1) := dk_27 (dk_at dksX3_finds_9 9 rfl rfl)
theorem dX3_finds_220 : decode cX3_finds 220 = .ok (.invokevirtual 160, 3) := dk_182 0 160 (dk_at dksX3_finds_9 10 rfl rfl)
theorem dX3_finds_223 : decode cX3_finds 223 = .ok (.iconst 0, 1) := dk_3 (dk_at dksX3_finds_9 13 rfl rfl)
theorem dX3_finds_224 : decode cX3_finds 224 = .ok (.istore 5, 2) := dk_54 5 (dk_at dksX3_finds_9 14 rfl rfl)
theorem dX3_finds_226 : decode cX3_finds 226 = .ok (.iload 5, 2) := dk_21 5 (dk_at dksX3_finds_9 16 rfl rfl)
theorem dX3_finds_228 : decode cX3_finds 228 = .ok (.aload_n 0, 1) := dk_42 (dk_at dksX3_finds_9 18 rfl rfl)
theorem dX3_finds_229 : decode cX3_finds 229 = .ok (.getfield 117, 3) := dk_180 0 117 (dk_at dksX3_finds_9 19 rfl rfl)
theorem dX3_finds_232 : decode cX3_finds 232 = .ok (.if_icmp .ge 43, 3) := dk_162 0 43 (dk_at dksX3_finds_10 0 rfl rfl)
theorem dX3_finds_235 : decode cX3_finds 235 = .ok (.aload_n 0, 1) := dk_42 (dk_at dksX3_finds_10 3 rfl rfl)
theorem dX3_finds_236 : decode cX3_finds 236 = .ok (.getfield 81, 3) := dk_180 0 81 (dk_at dksX3_finds_10 4 rfl rfl)
theorem dX3_finds_239 : decode cX3_finds 239 = .ok (.aload_n 0, 1) := dk_42 (dk_at dksX3_finds_10 7 rfl rfl)
theorem dX3_finds_240 : decode cX3_finds 240 = .ok (.getfield 72, 3) := dk_180 0 72 (dk_at dksX3_finds_10 8 rfl rfl)
theorem dX3_finds_243 : decode cX3_finds 243 = .ok (.iload 5, 2) := dk_21 5 (dk_at dksX3_finds_10 11 rfl rfl)
theorem dX3_finds_245 : decode cX3_finds 245 = .ok (.iaload, 1) := dk_46 (dk_at dksX3_finds_10 13 rfl rfl)
theorem dX3_finds_246 : decode cX3_finds 246 = .ok (.aload_n 0, 1) := dk_42 (dk_at dksX3_finds_10 14 rfl rfl)
theorem dX3_finds_247 : decode cX3_finds 247 = .ok (.getfield 81, 3) := dk_180 0 81 (dk_at dksX3_finds_10 15 rfl rfl)
theorem dX3_finds_250 : decode cX3_finds 250 = .ok (.aload_n 0, 1) := dk_42 (dk_at dksX3_finds_10 18 rfl rfl)
theorem dX3_finds_251 : decode cX3_finds 251 = .ok (.getfield 72, 3) := dk_180 0 72 (dk_at dksX3_finds_10 19 rfl rfl)
theorem dX3_finds_254 : decode cX3_finds 254 = .ok (.iload 5, 2) := dk_21 5 (dk_at dksX3_finds_10 22 rfl rfl)
theorem dX3_finds_256 : decode cX3_finds 256 = .ok (.iaload, 1) := dk_46 (dk_at dksX3_finds_11 0 rfl rfl)
theorem dX3_finds_257 : decode cX3_finds 257 = .ok (.iaload, 1) := dk_46 (dk_at dksX3_finds_11 1 rfl rfl)
theorem dX3_finds_258 : decode cX3_finds 258 = .ok (.aload_n 0, 1) := dk_42 (dk_at dksX3_finds_11 2 rfl rfl)
theorem dX3_finds_259 : decode cX3_finds 259 = .ok (.iload_n 2, 1) := dk_28 (dk_at dksX3_finds_11 3 rfl rfl)
theorem dX3_finds_260 : decode cX3_finds 260 = .ok (.iload 5, 2) := dk_21 5 (dk_at dksX3_finds_11 4 rfl rfl)
theorem dX3_finds_262 : decode cX3_finds 262 = .ok (.invokevirtual 107, 3) := dk_182 0 107 (dk_at dksX3_finds_11 6 rfl rfl)
theorem dX3_finds_265 : decode cX3_finds 265 = .ok (.invokestatic 111, 3) := dk_184 0 111 (dk_at dksX3_finds_11 9 rfl rfl)
theorem dX3_finds_268 : decode cX3_finds 268 = .ok (.iastore, 1) := dk_79 (dk_at dksX3_finds_11 12 rfl rfl)
theorem dX3_finds_269 : decode cX3_finds 269 = .ok (.iinc 5 1, 3) := dk_132 5 1 (dk_at dksX3_finds_11 13 rfl rfl)
theorem dX3_finds_272 : decode cX3_finds 272 = .ok (.goto (-46), 3) := dk_167 255 210 (dk_at dksX3_finds_11 16 rfl rfl)
theorem dX3_finds_275 : decode cX3_finds 275 = .ok (.iinc 3 1, 3) := dk_132 3 1 (dk_at dksX3_finds_11 19 rfl rfl)
theorem dX3_finds_278 : decode cX3_finds 278 = .ok (.goto (-239), 3) := dk_167 255 17 (dk_at dksX3_finds_12 0 rfl rfl)
theorem dX3_finds_281 : decode cX3_finds 281 = .ok (.return_, 1) := dk_177 (dk_at dksX3_finds_12 3 rfl rfl)
abbrev cX3_tellsAll : ByteArray := prog_13_method_25_code
def yX3_tellsAll : MethodName := ⟨RX3, "tellsAll", "(I)V"⟩
def dkwX3_tellsAll_2 : List UInt8 := [167, 255, 224, 132, 2, 1, 167, 255, 206, 177]
abbrev dktX3_tellsAll_2 : List UInt8 := dkwX3_tellsAll_2 ++ []
def dkwX3_tellsAll_1 : List UInt8 := [180, 0, 78, 16, 80, 28, 104, 29, 96, 42, 27, 184, 0, 148, 28, 29, 182, 0, 151, 79, 132, 3, 1]
abbrev dktX3_tellsAll_1 : List UInt8 := dkwX3_tellsAll_1 ++ dktX3_tellsAll_2
def dkwX3_tellsAll_0 : List UInt8 := [3, 61, 28, 42, 180, 0, 60, 27, 46, 162, 0, 46, 3, 62, 29, 42, 180, 0, 117, 162, 0, 30, 42]
abbrev dktX3_tellsAll_0 : List UInt8 := dkwX3_tellsAll_0 ++ dktX3_tellsAll_1
theorem dksX3_tellsAll_0 : cX3_tellsAll.data.toList.drop 0 = dktX3_tellsAll_0 := by decide +kernel
theorem dksX3_tellsAll_1 : cX3_tellsAll.data.toList.drop 23 = dktX3_tellsAll_1 := dk_seg dksX3_tellsAll_0 23 rfl rfl
theorem dksX3_tellsAll_2 : cX3_tellsAll.data.toList.drop 46 = dktX3_tellsAll_2 := dk_seg dksX3_tellsAll_1 23 rfl rfl
theorem dX3_tellsAll_0 : decode cX3_tellsAll 0 = .ok (.iconst 0, 1) := dk_3 (dk_at dksX3_tellsAll_0 0 rfl rfl)
theorem dX3_tellsAll_1 : decode cX3_tellsAll 1 = .ok (.istore_n 2, 1) := dk_61 (dk_at dksX3_tellsAll_0 1 rfl rfl)
theorem dX3_tellsAll_2 : decode cX3_tellsAll 2 = .ok (.iload_n 2, 1) := dk_28 (dk_at dksX3_tellsAll_0 2 rfl rfl)
theorem dX3_tellsAll_3 : decode cX3_tellsAll 3 = .ok (.aload_n 0, 1) := dk_42 (dk_at dksX3_tellsAll_0 3 rfl rfl)
theorem dX3_tellsAll_4 : decode cX3_tellsAll 4 = .ok (.getfield 60, 3) := dk_180 0 60 (dk_at dksX3_tellsAll_0 4 rfl rfl)
theorem dX3_tellsAll_7 : decode cX3_tellsAll 7 = .ok (.iload_n 1, 1) := dk_27 (dk_at dksX3_tellsAll_0 7 rfl rfl)
theorem dX3_tellsAll_8 : decode cX3_tellsAll 8 = .ok (.iaload, 1) := dk_46 (dk_at dksX3_tellsAll_0 8 rfl rfl)
theorem dX3_tellsAll_9 : decode cX3_tellsAll 9 = .ok (.if_icmp .ge 46, 3) := dk_162 0 46 (dk_at dksX3_tellsAll_0 9 rfl rfl)
theorem dX3_tellsAll_12 : decode cX3_tellsAll 12 = .ok (.iconst 0, 1) := dk_3 (dk_at dksX3_tellsAll_0 12 rfl rfl)
theorem dX3_tellsAll_13 : decode cX3_tellsAll 13 = .ok (.istore_n 3, 1) := dk_62 (dk_at dksX3_tellsAll_0 13 rfl rfl)
theorem dX3_tellsAll_14 : decode cX3_tellsAll 14 = .ok (.iload_n 3, 1) := dk_29 (dk_at dksX3_tellsAll_0 14 rfl rfl)
theorem dX3_tellsAll_15 : decode cX3_tellsAll 15 = .ok (.aload_n 0, 1) := dk_42 (dk_at dksX3_tellsAll_0 15 rfl rfl)
theorem dX3_tellsAll_16 : decode cX3_tellsAll 16 = .ok (.getfield 117, 3) := dk_180 0 117 (dk_at dksX3_tellsAll_0 16 rfl rfl)
theorem dX3_tellsAll_19 : decode cX3_tellsAll 19 = .ok (.if_icmp .ge 30, 3) := dk_162 0 30 (dk_at dksX3_tellsAll_0 19 rfl rfl)
theorem dX3_tellsAll_22 : decode cX3_tellsAll 22 = .ok (.aload_n 0, 1) := dk_42 (dk_at dksX3_tellsAll_0 22 rfl rfl)
theorem dX3_tellsAll_23 : decode cX3_tellsAll 23 = .ok (.getfield 78, 3) := dk_180 0 78 (dk_at dksX3_tellsAll_1 0 rfl rfl)
theorem dX3_tellsAll_26 : decode cX3_tellsAll 26 = .ok (.bipush 80, 2) := dk_16 80 (dk_at dksX3_tellsAll_1 3 rfl rfl)
theorem dX3_tellsAll_28 : decode cX3_tellsAll 28 = .ok (.iload_n 2, 1) := dk_28 (dk_at dksX3_tellsAll_1 5 rfl rfl)
theorem dX3_tellsAll_29 : decode cX3_tellsAll 29 = .ok (.imul, 1) := dk_104 (dk_at dksX3_tellsAll_1 6 rfl rfl)
theorem dX3_tellsAll_30 : decode cX3_tellsAll 30 = .ok (.iload_n 3, 1) := dk_29 (dk_at dksX3_tellsAll_1 7 rfl rfl)
theorem dX3_tellsAll_31 : decode cX3_tellsAll 31 = .ok (.iadd, 1) := dk_96 (dk_at dksX3_tellsAll_1 8 rfl rfl)
theorem dX3_tellsAll_32 : decode cX3_tellsAll 32 = .ok (.aload_n 0, 1) := dk_42 (dk_at dksX3_tellsAll_1 9 rfl rfl)
theorem dX3_tellsAll_33 : decode cX3_tellsAll 33 = .ok (.iload_n 1, 1) := dk_27 (dk_at dksX3_tellsAll_1 10 rfl rfl)
theorem dX3_tellsAll_34 : decode cX3_tellsAll 34 = .ok (.invokestatic 148, 3) := dk_184 0 148 (dk_at dksX3_tellsAll_1 11 rfl rfl)
theorem dX3_tellsAll_37 : decode cX3_tellsAll 37 = .ok (.iload_n 2, 1) := dk_28 (dk_at dksX3_tellsAll_1 14 rfl rfl)
theorem dX3_tellsAll_38 : decode cX3_tellsAll 38 = .ok (.iload_n 3, 1) := dk_29 (dk_at dksX3_tellsAll_1 15 rfl rfl)
theorem dX3_tellsAll_39 : decode cX3_tellsAll 39 = .ok (.invokevirtual 151, 3) := dk_182 0 151 (dk_at dksX3_tellsAll_1 16 rfl rfl)
theorem dX3_tellsAll_42 : decode cX3_tellsAll 42 = .ok (.iastore, 1) := dk_79 (dk_at dksX3_tellsAll_1 19 rfl rfl)
theorem dX3_tellsAll_43 : decode cX3_tellsAll 43 = .ok (.iinc 3 1, 3) := dk_132 3 1 (dk_at dksX3_tellsAll_1 20 rfl rfl)
theorem dX3_tellsAll_46 : decode cX3_tellsAll 46 = .ok (.goto (-32), 3) := dk_167 255 224 (dk_at dksX3_tellsAll_2 0 rfl rfl)
theorem dX3_tellsAll_49 : decode cX3_tellsAll 49 = .ok (.iinc 2 1, 3) := dk_132 2 1 (dk_at dksX3_tellsAll_2 3 rfl rfl)
theorem dX3_tellsAll_52 : decode cX3_tellsAll 52 = .ok (.goto (-50), 3) := dk_167 255 206 (dk_at dksX3_tellsAll_2 6 rfl rfl)
theorem dX3_tellsAll_55 : decode cX3_tellsAll 55 = .ok (.return_, 1) := dk_177 (dk_at dksX3_tellsAll_2 9 rfl rfl)
abbrev cX3_fromOf : ByteArray := prog_13_method_24_code
def yX3_fromOf : MethodName := ⟨RX3, "fromOf", "(I)I"⟩
def dkwX3_fromOf_0 : List UInt8 := [17, 0, 192, 16, 24, 26, 104, 96, 172]
abbrev dktX3_fromOf_0 : List UInt8 := dkwX3_fromOf_0 ++ []
theorem dksX3_fromOf_0 : cX3_fromOf.data.toList.drop 0 = dktX3_fromOf_0 := by decide +kernel
theorem dX3_fromOf_0 : decode cX3_fromOf 0 = .ok (.sipush 192, 3) := dk_17 0 192 (dk_at dksX3_fromOf_0 0 rfl rfl)
theorem dX3_fromOf_3 : decode cX3_fromOf 3 = .ok (.bipush 24, 2) := dk_16 24 (dk_at dksX3_fromOf_0 3 rfl rfl)
theorem dX3_fromOf_5 : decode cX3_fromOf 5 = .ok (.iload_n 0, 1) := dk_26 (dk_at dksX3_fromOf_0 5 rfl rfl)
theorem dX3_fromOf_6 : decode cX3_fromOf 6 = .ok (.imul, 1) := dk_104 (dk_at dksX3_fromOf_0 6 rfl rfl)
theorem dX3_fromOf_7 : decode cX3_fromOf 7 = .ok (.iadd, 1) := dk_96 (dk_at dksX3_fromOf_0 7 rfl rfl)
theorem dX3_fromOf_8 : decode cX3_fromOf 8 = .ok (.ireturn, 1) := dk_172 (dk_at dksX3_fromOf_0 8 rfl rfl)
abbrev cX3_tellsAt : ByteArray := prog_13_method_23_code
def yX3_tellsAt : MethodName := ⟨RX3, "tellsAt", "(III)I"⟩
def dkwX3_tellsAt_14 : List UInt8 := [182, 0, 145, 172]
abbrev dktX3_tellsAt_14 : List UInt8 := dkwX3_tellsAt_14 ++ []
def dkwX3_tellsAt_13 : List UInt8 := [46, 182, 0, 142, 172, 42, 21, 5, 29, 42, 180, 0, 45, 21, 4, 46, 42, 180, 0, 48, 21, 4, 46]
abbrev dktX3_tellsAt_13 : List UInt8 := dkwX3_tellsAt_13 ++ dktX3_tellsAt_14
def dkwX3_tellsAt_12 : List UInt8 := [21, 5, 29, 42, 180, 0, 48, 21, 4, 46, 182, 0, 139, 172, 42, 21, 5, 29, 42, 180, 0, 48, 21, 4]
abbrev dktX3_tellsAt_12 : List UInt8 := dkwX3_tellsAt_12 ++ dktX3_tellsAt_13
def dkwX3_tellsAt_11 : List UInt8 := [4, 96, 182, 0, 107, 167, 0, 15, 42, 180, 0, 97, 153, 0, 7, 3, 167, 0, 4, 5, 172, 42, 21, 6]
abbrev dktX3_tellsAt_11 : List UInt8 := dkwX3_tellsAt_11 ++ dktX3_tellsAt_12
def dkwX3_tellsAt_10 : List UInt8 := [180, 0, 48, 21, 4, 46, 182, 0, 135, 172, 29, 4, 96, 42, 180, 0, 117, 162, 0, 15, 42, 21, 5, 29]
abbrev dktX3_tellsAt_10 : List UInt8 := dkwX3_tellsAt_10 ++ dktX3_tellsAt_11
def dkwX3_tellsAt_9 : List UInt8 := [3, 172, 42, 21, 6, 21, 5, 29, 42, 180, 0, 48, 21, 4, 46, 182, 0, 131, 172, 42, 21, 5, 29, 42]
abbrev dktX3_tellsAt_9 : List UInt8 := dkwX3_tellsAt_9 ++ dktX3_tellsAt_10
def dkwX3_tellsAt_8 : List UInt8 := [29, 182, 0, 107, 184, 0, 114, 172, 29, 158, 0, 15, 42, 21, 5, 29, 4, 100, 182, 0, 107, 167, 0, 4]
abbrev dktX3_tellsAt_8 : List UInt8 := dkwX3_tellsAt_8 ++ dktX3_tellsAt_9
def dkwX3_tellsAt_7 : List UInt8 := [182, 0, 107, 42, 21, 5, 29, 182, 0, 107, 184, 0, 111, 172, 42, 21, 6, 29, 182, 0, 107, 42, 21, 5]
abbrev dktX3_tellsAt_7 : List UInt8 := dkwX3_tellsAt_7 ++ dktX3_tellsAt_8
def dkwX3_tellsAt_6 : List UInt8 := [153, 0, 7, 4, 167, 0, 4, 3, 172, 42, 21, 5, 29, 182, 0, 107, 184, 0, 127, 172, 42, 21, 6, 29]
abbrev dktX3_tellsAt_6 : List UInt8 := dkwX3_tellsAt_6 ++ dktX3_tellsAt_7
def dkwX3_tellsAt_5 : List UInt8 := [42, 180, 0, 29, 21, 7, 46, 42, 180, 0, 45, 21, 4, 46, 42, 180, 0, 48, 21, 4, 46, 182, 0, 124]
abbrev dktX3_tellsAt_5 : List UInt8 := dkwX3_tellsAt_5 ++ dktX3_tellsAt_6
def dkwX3_tellsAt_4 : List UInt8 := [42, 180, 0, 23, 21, 7, 46, 42, 180, 0, 45, 21, 4, 46, 160, 0, 7, 4, 167, 0, 4, 3, 172, 42]
abbrev dktX3_tellsAt_4 : List UInt8 := dkwX3_tellsAt_4 ++ dktX3_tellsAt_5
def dkwX3_tellsAt_3 : List UInt8 := [170, 0, 0, 0, 0, 0, 1, 25, 0, 0, 0, 0, 0, 0, 0, 10, 0, 0, 0, 60, 0, 0, 0, 83, 0, 0, 0, 117, 0, 0, 0, 128, 0, 0, 0, 146, 0, 0, 0, 164, 0, 0, 0, 182, 0, 0, 0, 199, 0, 0, 0, 214, 0, 0, 0, 249, 0, 0, 1, 10]
abbrev dktX3_tellsAt_3 : List UInt8 := dkwX3_tellsAt_3 ++ dktX3_tellsAt_4
def dkwX3_tellsAt_2 : List UInt8 := [21, 4, 46]
abbrev dktX3_tellsAt_2 : List UInt8 := dkwX3_tellsAt_2 ++ dktX3_tellsAt_3
def dkwX3_tellsAt_1 : List UInt8 := [180, 0, 51, 27, 21, 5, 96, 46, 100, 54, 6, 42, 180, 0, 72, 29, 46, 54, 7, 42, 180, 0, 42]
abbrev dktX3_tellsAt_1 : List UInt8 := dkwX3_tellsAt_1 ++ dktX3_tellsAt_2
def dkwX3_tellsAt_0 : List UInt8 := [27, 28, 96, 54, 4, 28, 4, 100, 54, 5, 21, 5, 156, 0, 7, 3, 167, 0, 15, 21, 5, 42]
abbrev dktX3_tellsAt_0 : List UInt8 := dkwX3_tellsAt_0 ++ dktX3_tellsAt_1
theorem dksX3_tellsAt_0 : cX3_tellsAt.data.toList.drop 0 = dktX3_tellsAt_0 := by decide +kernel
theorem dksX3_tellsAt_1 : cX3_tellsAt.data.toList.drop 22 = dktX3_tellsAt_1 := dk_seg dksX3_tellsAt_0 22 rfl rfl
theorem dksX3_tellsAt_2 : cX3_tellsAt.data.toList.drop 45 = dktX3_tellsAt_2 := dk_seg dksX3_tellsAt_1 23 rfl rfl
theorem dksX3_tellsAt_3 : cX3_tellsAt.data.toList.drop 48 = dktX3_tellsAt_3 := dk_seg dksX3_tellsAt_2 3 rfl rfl
theorem dksX3_tellsAt_4 : cX3_tellsAt.data.toList.drop 108 = dktX3_tellsAt_4 := dk_seg dksX3_tellsAt_3 60 rfl rfl
theorem dksX3_tellsAt_5 : cX3_tellsAt.data.toList.drop 132 = dktX3_tellsAt_5 := dk_seg dksX3_tellsAt_4 24 rfl rfl
theorem dksX3_tellsAt_6 : cX3_tellsAt.data.toList.drop 156 = dktX3_tellsAt_6 := dk_seg dksX3_tellsAt_5 24 rfl rfl
theorem dksX3_tellsAt_7 : cX3_tellsAt.data.toList.drop 180 = dktX3_tellsAt_7 := dk_seg dksX3_tellsAt_6 24 rfl rfl
theorem dksX3_tellsAt_8 : cX3_tellsAt.data.toList.drop 204 = dktX3_tellsAt_8 := dk_seg dksX3_tellsAt_7 24 rfl rfl
theorem dksX3_tellsAt_9 : cX3_tellsAt.data.toList.drop 228 = dktX3_tellsAt_9 := dk_seg dksX3_tellsAt_8 24 rfl rfl
theorem dksX3_tellsAt_10 : cX3_tellsAt.data.toList.drop 252 = dktX3_tellsAt_10 := dk_seg dksX3_tellsAt_9 24 rfl rfl
theorem dksX3_tellsAt_11 : cX3_tellsAt.data.toList.drop 276 = dktX3_tellsAt_11 := dk_seg dksX3_tellsAt_10 24 rfl rfl
theorem dksX3_tellsAt_12 : cX3_tellsAt.data.toList.drop 300 = dktX3_tellsAt_12 := dk_seg dksX3_tellsAt_11 24 rfl rfl
theorem dksX3_tellsAt_13 : cX3_tellsAt.data.toList.drop 324 = dktX3_tellsAt_13 := dk_seg dksX3_tellsAt_12 24 rfl rfl
theorem dksX3_tellsAt_14 : cX3_tellsAt.data.toList.drop 347 = dktX3_tellsAt_14 := dk_seg dksX3_tellsAt_13 23 rfl rfl
theorem dX3_tellsAt_0 : decode cX3_tellsAt 0 = .ok (.iload_n 1, 1) := dk_27 (dk_at dksX3_tellsAt_0 0 rfl rfl)
theorem dX3_tellsAt_1 : decode cX3_tellsAt 1 = .ok (.iload_n 2, 1) := dk_28 (dk_at dksX3_tellsAt_0 1 rfl rfl)
theorem dX3_tellsAt_2 : decode cX3_tellsAt 2 = .ok (.iadd, 1) := dk_96 (dk_at dksX3_tellsAt_0 2 rfl rfl)
theorem dX3_tellsAt_3 : decode cX3_tellsAt 3 = .ok (.istore 4, 2) := dk_54 4 (dk_at dksX3_tellsAt_0 3 rfl rfl)
theorem dX3_tellsAt_5 : decode cX3_tellsAt 5 = .ok (.iload_n 2, 1) := dk_28 (dk_at dksX3_tellsAt_0 5 rfl rfl)
theorem dX3_tellsAt_6 : decode cX3_tellsAt 6 = .ok (.iconst 1, 1) := dk_4 (dk_at dksX3_tellsAt_0 6 rfl rfl)
theorem dX3_tellsAt_7 : decode cX3_tellsAt 7 = .ok (.isub, 1) := dk_100 (dk_at dksX3_tellsAt_0 7 rfl rfl)
theorem dX3_tellsAt_8 : decode cX3_tellsAt 8 = .ok (.istore 5, 2) := dk_54 5 (dk_at dksX3_tellsAt_0 8 rfl rfl)
theorem dX3_tellsAt_10 : decode cX3_tellsAt 10 = .ok (.iload 5, 2) := dk_21 5 (dk_at dksX3_tellsAt_0 10 rfl rfl)
theorem dX3_tellsAt_12 : decode cX3_tellsAt 12 = .ok (.ifCond .ge 7, 3) := dk_156 0 7 (dk_at dksX3_tellsAt_0 12 rfl rfl)
theorem dX3_tellsAt_15 : decode cX3_tellsAt 15 = .ok (.iconst 0, 1) := dk_3 (dk_at dksX3_tellsAt_0 15 rfl rfl)
theorem dX3_tellsAt_16 : decode cX3_tellsAt 16 = .ok (.goto 15, 3) := dk_167 0 15 (dk_at dksX3_tellsAt_0 16 rfl rfl)
theorem dX3_tellsAt_19 : decode cX3_tellsAt 19 = .ok (.iload 5, 2) := dk_21 5 (dk_at dksX3_tellsAt_0 19 rfl rfl)
theorem dX3_tellsAt_21 : decode cX3_tellsAt 21 = .ok (.aload_n 0, 1) := dk_42 (dk_at dksX3_tellsAt_0 21 rfl rfl)
theorem dX3_tellsAt_22 : decode cX3_tellsAt 22 = .ok (.getfield 51, 3) := dk_180 0 51 (dk_at dksX3_tellsAt_1 0 rfl rfl)
theorem dX3_tellsAt_25 : decode cX3_tellsAt 25 = .ok (.iload_n 1, 1) := dk_27 (dk_at dksX3_tellsAt_1 3 rfl rfl)
theorem dX3_tellsAt_26 : decode cX3_tellsAt 26 = .ok (.iload 5, 2) := dk_21 5 (dk_at dksX3_tellsAt_1 4 rfl rfl)
theorem dX3_tellsAt_28 : decode cX3_tellsAt 28 = .ok (.iadd, 1) := dk_96 (dk_at dksX3_tellsAt_1 6 rfl rfl)
theorem dX3_tellsAt_29 : decode cX3_tellsAt 29 = .ok (.iaload, 1) := dk_46 (dk_at dksX3_tellsAt_1 7 rfl rfl)
theorem dX3_tellsAt_30 : decode cX3_tellsAt 30 = .ok (.isub, 1) := dk_100 (dk_at dksX3_tellsAt_1 8 rfl rfl)
theorem dX3_tellsAt_31 : decode cX3_tellsAt 31 = .ok (.istore 6, 2) := dk_54 6 (dk_at dksX3_tellsAt_1 9 rfl rfl)
theorem dX3_tellsAt_33 : decode cX3_tellsAt 33 = .ok (.aload_n 0, 1) := dk_42 (dk_at dksX3_tellsAt_1 11 rfl rfl)
theorem dX3_tellsAt_34 : decode cX3_tellsAt 34 = .ok (.getfield 72, 3) := dk_180 0 72 (dk_at dksX3_tellsAt_1 12 rfl rfl)
theorem dX3_tellsAt_37 : decode cX3_tellsAt 37 = .ok (.iload_n 3, 1) := dk_29 (dk_at dksX3_tellsAt_1 15 rfl rfl)
theorem dX3_tellsAt_38 : decode cX3_tellsAt 38 = .ok (.iaload, 1) := dk_46 (dk_at dksX3_tellsAt_1 16 rfl rfl)
theorem dX3_tellsAt_39 : decode cX3_tellsAt 39 = .ok (.istore 7, 2) := dk_54 7 (dk_at dksX3_tellsAt_1 17 rfl rfl)
theorem dX3_tellsAt_41 : decode cX3_tellsAt 41 = .ok (.aload_n 0, 1) := dk_42 (dk_at dksX3_tellsAt_1 19 rfl rfl)
theorem dX3_tellsAt_42 : decode cX3_tellsAt 42 = .ok (.getfield 42, 3) := dk_180 0 42 (dk_at dksX3_tellsAt_1 20 rfl rfl)
theorem dX3_tellsAt_45 : decode cX3_tellsAt 45 = .ok (.iload 4, 2) := dk_21 4 (dk_at dksX3_tellsAt_2 0 rfl rfl)
theorem dX3_tellsAt_47 : decode cX3_tellsAt 47 = .ok (.iaload, 1) := dk_46 (dk_at dksX3_tellsAt_2 2 rfl rfl)
theorem dX3_tellsAt_48 : decode cX3_tellsAt 48 = .ok (.tableswitch 281 0 10 #[60, 83, 117, 128, 146, 164, 182, 199, 214, 249, 266], 60) := by decide +kernel
theorem dX3_tellsAt_108 : decode cX3_tellsAt 108 = .ok (.aload_n 0, 1) := dk_42 (dk_at dksX3_tellsAt_4 0 rfl rfl)
theorem dX3_tellsAt_109 : decode cX3_tellsAt 109 = .ok (.getfield 23, 3) := dk_180 0 23 (dk_at dksX3_tellsAt_4 1 rfl rfl)
theorem dX3_tellsAt_112 : decode cX3_tellsAt 112 = .ok (.iload 7, 2) := dk_21 7 (dk_at dksX3_tellsAt_4 4 rfl rfl)
theorem dX3_tellsAt_114 : decode cX3_tellsAt 114 = .ok (.iaload, 1) := dk_46 (dk_at dksX3_tellsAt_4 6 rfl rfl)
theorem dX3_tellsAt_115 : decode cX3_tellsAt 115 = .ok (.aload_n 0, 1) := dk_42 (dk_at dksX3_tellsAt_4 7 rfl rfl)
theorem dX3_tellsAt_116 : decode cX3_tellsAt 116 = .ok (.getfield 45, 3) := dk_180 0 45 (dk_at dksX3_tellsAt_4 8 rfl rfl)
theorem dX3_tellsAt_119 : decode cX3_tellsAt 119 = .ok (.iload 4, 2) := dk_21 4 (dk_at dksX3_tellsAt_4 11 rfl rfl)
theorem dX3_tellsAt_121 : decode cX3_tellsAt 121 = .ok (.iaload, 1) := dk_46 (dk_at dksX3_tellsAt_4 13 rfl rfl)
theorem dX3_tellsAt_122 : decode cX3_tellsAt 122 = .ok (.if_icmp .ne 7, 3) := dk_160 0 7 (dk_at dksX3_tellsAt_4 14 rfl rfl)
theorem dX3_tellsAt_125 : decode cX3_tellsAt 125 = .ok (.iconst 1, 1) := dk_4 (dk_at dksX3_tellsAt_4 17 rfl rfl)
theorem dX3_tellsAt_126 : decode cX3_tellsAt 126 = .ok (.goto 4, 3) := dk_167 0 4 (dk_at dksX3_tellsAt_4 18 rfl rfl)
theorem dX3_tellsAt_129 : decode cX3_tellsAt 129 = .ok (.iconst 0, 1) := dk_3 (dk_at dksX3_tellsAt_4 21 rfl rfl)
theorem dX3_tellsAt_130 : decode cX3_tellsAt 130 = .ok (.ireturn, 1) := dk_172 (dk_at dksX3_tellsAt_4 22 rfl rfl)
theorem dX3_tellsAt_131 : decode cX3_tellsAt 131 = .ok (.aload_n 0, 1) := dk_42 (dk_at dksX3_tellsAt_4 23 rfl rfl)
theorem dX3_tellsAt_132 : decode cX3_tellsAt 132 = .ok (.aload_n 0, 1) := dk_42 (dk_at dksX3_tellsAt_5 0 rfl rfl)
theorem dX3_tellsAt_133 : decode cX3_tellsAt 133 = .ok (.getfield 29, 3) := dk_180 0 29 (dk_at dksX3_tellsAt_5 1 rfl rfl)
theorem dX3_tellsAt_136 : decode cX3_tellsAt 136 = .ok (.iload 7, 2) := dk_21 7 (dk_at dksX3_tellsAt_5 4 rfl rfl)
theorem dX3_tellsAt_138 : decode cX3_tellsAt 138 = .ok (.iaload, 1) := dk_46 (dk_at dksX3_tellsAt_5 6 rfl rfl)
theorem dX3_tellsAt_139 : decode cX3_tellsAt 139 = .ok (.aload_n 0, 1) := dk_42 (dk_at dksX3_tellsAt_5 7 rfl rfl)
theorem dX3_tellsAt_140 : decode cX3_tellsAt 140 = .ok (.getfield 45, 3) := dk_180 0 45 (dk_at dksX3_tellsAt_5 8 rfl rfl)
theorem dX3_tellsAt_143 : decode cX3_tellsAt 143 = .ok (.iload 4, 2) := dk_21 4 (dk_at dksX3_tellsAt_5 11 rfl rfl)
theorem dX3_tellsAt_145 : decode cX3_tellsAt 145 = .ok (.iaload, 1) := dk_46 (dk_at dksX3_tellsAt_5 13 rfl rfl)
theorem dX3_tellsAt_146 : decode cX3_tellsAt 146 = .ok (.aload_n 0, 1) := dk_42 (dk_at dksX3_tellsAt_5 14 rfl rfl)
theorem dX3_tellsAt_147 : decode cX3_tellsAt 147 = .ok (.getfield 48, 3) := dk_180 0 48 (dk_at dksX3_tellsAt_5 15 rfl rfl)
theorem dX3_tellsAt_150 : decode cX3_tellsAt 150 = .ok (.iload 4, 2) := dk_21 4 (dk_at dksX3_tellsAt_5 18 rfl rfl)
theorem dX3_tellsAt_152 : decode cX3_tellsAt 152 = .ok (.iaload, 1) := dk_46 (dk_at dksX3_tellsAt_5 20 rfl rfl)
theorem dX3_tellsAt_153 : decode cX3_tellsAt 153 = .ok (.invokevirtual 124, 3) := dk_182 0 124 (dk_at dksX3_tellsAt_5 21 rfl rfl)
theorem dX3_tellsAt_156 : decode cX3_tellsAt 156 = .ok (.ifCond .eq 7, 3) := dk_153 0 7 (dk_at dksX3_tellsAt_6 0 rfl rfl)
theorem dX3_tellsAt_159 : decode cX3_tellsAt 159 = .ok (.iconst 1, 1) := dk_4 (dk_at dksX3_tellsAt_6 3 rfl rfl)
theorem dX3_tellsAt_160 : decode cX3_tellsAt 160 = .ok (.goto 4, 3) := dk_167 0 4 (dk_at dksX3_tellsAt_6 4 rfl rfl)
theorem dX3_tellsAt_163 : decode cX3_tellsAt 163 = .ok (.iconst 0, 1) := dk_3 (dk_at dksX3_tellsAt_6 7 rfl rfl)
theorem dX3_tellsAt_164 : decode cX3_tellsAt 164 = .ok (.ireturn, 1) := dk_172 (dk_at dksX3_tellsAt_6 8 rfl rfl)
theorem dX3_tellsAt_165 : decode cX3_tellsAt 165 = .ok (.aload_n 0, 1) := dk_42 (dk_at dksX3_tellsAt_6 9 rfl rfl)
theorem dX3_tellsAt_166 : decode cX3_tellsAt 166 = .ok (.iload 5, 2) := dk_21 5 (dk_at dksX3_tellsAt_6 10 rfl rfl)
theorem dX3_tellsAt_168 : decode cX3_tellsAt 168 = .ok (.iload_n 3, 1) := dk_29 (dk_at dksX3_tellsAt_6 12 rfl rfl)
theorem dX3_tellsAt_169 : decode cX3_tellsAt 169 = .ok (.invokevirtual 107, 3) := dk_182 0 107 (dk_at dksX3_tellsAt_6 13 rfl rfl)
theorem dX3_tellsAt_172 : decode cX3_tellsAt 172 = .ok (.invokestatic 127, 3) := dk_184 0 127 (dk_at dksX3_tellsAt_6 16 rfl rfl)
theorem dX3_tellsAt_175 : decode cX3_tellsAt 175 = .ok (.ireturn, 1) := dk_172 (dk_at dksX3_tellsAt_6 19 rfl rfl)
theorem dX3_tellsAt_176 : decode cX3_tellsAt 176 = .ok (.aload_n 0, 1) := dk_42 (dk_at dksX3_tellsAt_6 20 rfl rfl)
theorem dX3_tellsAt_177 : decode cX3_tellsAt 177 = .ok (.iload 6, 2) := dk_21 6 (dk_at dksX3_tellsAt_6 21 rfl rfl)
theorem dX3_tellsAt_179 : decode cX3_tellsAt 179 = .ok (.iload_n 3, 1) := dk_29 (dk_at dksX3_tellsAt_6 23 rfl rfl)
theorem dX3_tellsAt_180 : decode cX3_tellsAt 180 = .ok (.invokevirtual 107, 3) := dk_182 0 107 (dk_at dksX3_tellsAt_7 0 rfl rfl)
theorem dX3_tellsAt_183 : decode cX3_tellsAt 183 = .ok (.aload_n 0, 1) := dk_42 (dk_at dksX3_tellsAt_7 3 rfl rfl)
theorem dX3_tellsAt_184 : decode cX3_tellsAt 184 = .ok (.iload 5, 2) := dk_21 5 (dk_at dksX3_tellsAt_7 4 rfl rfl)
theorem dX3_tellsAt_186 : decode cX3_tellsAt 186 = .ok (.iload_n 3, 1) := dk_29 (dk_at dksX3_tellsAt_7 6 rfl rfl)
theorem dX3_tellsAt_187 : decode cX3_tellsAt 187 = .ok (.invokevirtual 107, 3) := dk_182 0 107 (dk_at dksX3_tellsAt_7 7 rfl rfl)
theorem dX3_tellsAt_190 : decode cX3_tellsAt 190 = .ok (.invokestatic 111, 3) := dk_184 0 111 (dk_at dksX3_tellsAt_7 10 rfl rfl)
theorem dX3_tellsAt_193 : decode cX3_tellsAt 193 = .ok (.ireturn, 1) := dk_172 (dk_at dksX3_tellsAt_7 13 rfl rfl)
theorem dX3_tellsAt_194 : decode cX3_tellsAt 194 = .ok (.aload_n 0, 1) := dk_42 (dk_at dksX3_tellsAt_7 14 rfl rfl)
theorem dX3_tellsAt_195 : decode cX3_tellsAt 195 = .ok (.iload 6, 2) := dk_21 6 (dk_at dksX3_tellsAt_7 15 rfl rfl)
theorem dX3_tellsAt_197 : decode cX3_tellsAt 197 = .ok (.iload_n 3, 1) := dk_29 (dk_at dksX3_tellsAt_7 17 rfl rfl)
theorem dX3_tellsAt_198 : decode cX3_tellsAt 198 = .ok (.invokevirtual 107, 3) := dk_182 0 107 (dk_at dksX3_tellsAt_7 18 rfl rfl)
theorem dX3_tellsAt_201 : decode cX3_tellsAt 201 = .ok (.aload_n 0, 1) := dk_42 (dk_at dksX3_tellsAt_7 21 rfl rfl)
theorem dX3_tellsAt_202 : decode cX3_tellsAt 202 = .ok (.iload 5, 2) := dk_21 5 (dk_at dksX3_tellsAt_7 22 rfl rfl)
theorem dX3_tellsAt_204 : decode cX3_tellsAt 204 = .ok (.iload_n 3, 1) := dk_29 (dk_at dksX3_tellsAt_8 0 rfl rfl)
theorem dX3_tellsAt_205 : decode cX3_tellsAt 205 = .ok (.invokevirtual 107, 3) := dk_182 0 107 (dk_at dksX3_tellsAt_8 1 rfl rfl)
theorem dX3_tellsAt_208 : decode cX3_tellsAt 208 = .ok (.invokestatic 114, 3) := dk_184 0 114 (dk_at dksX3_tellsAt_8 4 rfl rfl)
theorem dX3_tellsAt_211 : decode cX3_tellsAt 211 = .ok (.ireturn, 1) := dk_172 (dk_at dksX3_tellsAt_8 7 rfl rfl)
theorem dX3_tellsAt_212 : decode cX3_tellsAt 212 = .ok (.iload_n 3, 1) := dk_29 (dk_at dksX3_tellsAt_8 8 rfl rfl)
theorem dX3_tellsAt_213 : decode cX3_tellsAt 213 = .ok (.ifCond .le 15, 3) := dk_158 0 15 (dk_at dksX3_tellsAt_8 9 rfl rfl)
theorem dX3_tellsAt_216 : decode cX3_tellsAt 216 = .ok (.aload_n 0, 1) := dk_42 (dk_at dksX3_tellsAt_8 12 rfl rfl)
theorem dX3_tellsAt_217 : decode cX3_tellsAt 217 = .ok (.iload 5, 2) := dk_21 5 (dk_at dksX3_tellsAt_8 13 rfl rfl)
theorem dX3_tellsAt_219 : decode cX3_tellsAt 219 = .ok (.iload_n 3, 1) := dk_29 (dk_at dksX3_tellsAt_8 15 rfl rfl)
theorem dX3_tellsAt_220 : decode cX3_tellsAt 220 = .ok (.iconst 1, 1) := dk_4 (dk_at dksX3_tellsAt_8 16 rfl rfl)
theorem dX3_tellsAt_221 : decode cX3_tellsAt 221 = .ok (.isub, 1) := dk_100 (dk_at dksX3_tellsAt_8 17 rfl rfl)
theorem dX3_tellsAt_222 : decode cX3_tellsAt 222 = .ok (.invokevirtual 107, 3) := dk_182 0 107 (dk_at dksX3_tellsAt_8 18 rfl rfl)
theorem dX3_tellsAt_225 : decode cX3_tellsAt 225 = .ok (.goto 4, 3) := dk_167 0 4 (dk_at dksX3_tellsAt_8 21 rfl rfl)
theorem dX3_tellsAt_228 : decode cX3_tellsAt 228 = .ok (.iconst 0, 1) := dk_3 (dk_at dksX3_tellsAt_9 0 rfl rfl)
theorem dX3_tellsAt_229 : decode cX3_tellsAt 229 = .ok (.ireturn, 1) := dk_172 (dk_at dksX3_tellsAt_9 1 rfl rfl)
theorem dX3_tellsAt_230 : decode cX3_tellsAt 230 = .ok (.aload_n 0, 1) := dk_42 (dk_at dksX3_tellsAt_9 2 rfl rfl)
theorem dX3_tellsAt_231 : decode cX3_tellsAt 231 = .ok (.iload 6, 2) := dk_21 6 (dk_at dksX3_tellsAt_9 3 rfl rfl)
theorem dX3_tellsAt_233 : decode cX3_tellsAt 233 = .ok (.iload 5, 2) := dk_21 5 (dk_at dksX3_tellsAt_9 5 rfl rfl)
theorem dX3_tellsAt_235 : decode cX3_tellsAt 235 = .ok (.iload_n 3, 1) := dk_29 (dk_at dksX3_tellsAt_9 7 rfl rfl)
theorem dX3_tellsAt_236 : decode cX3_tellsAt 236 = .ok (.aload_n 0, 1) := dk_42 (dk_at dksX3_tellsAt_9 8 rfl rfl)
theorem dX3_tellsAt_237 : decode cX3_tellsAt 237 = .ok (.getfield 48, 3) := dk_180 0 48 (dk_at dksX3_tellsAt_9 9 rfl rfl)
theorem dX3_tellsAt_240 : decode cX3_tellsAt 240 = .ok (.iload 4, 2) := dk_21 4 (dk_at dksX3_tellsAt_9 12 rfl rfl)
theorem dX3_tellsAt_242 : decode cX3_tellsAt 242 = .ok (.iaload, 1) := dk_46 (dk_at dksX3_tellsAt_9 14 rfl rfl)
theorem dX3_tellsAt_243 : decode cX3_tellsAt 243 = .ok (.invokevirtual 131, 3) := dk_182 0 131 (dk_at dksX3_tellsAt_9 15 rfl rfl)
theorem dX3_tellsAt_246 : decode cX3_tellsAt 246 = .ok (.ireturn, 1) := dk_172 (dk_at dksX3_tellsAt_9 18 rfl rfl)
theorem dX3_tellsAt_247 : decode cX3_tellsAt 247 = .ok (.aload_n 0, 1) := dk_42 (dk_at dksX3_tellsAt_9 19 rfl rfl)
theorem dX3_tellsAt_248 : decode cX3_tellsAt 248 = .ok (.iload 5, 2) := dk_21 5 (dk_at dksX3_tellsAt_9 20 rfl rfl)
theorem dX3_tellsAt_250 : decode cX3_tellsAt 250 = .ok (.iload_n 3, 1) := dk_29 (dk_at dksX3_tellsAt_9 22 rfl rfl)
theorem dX3_tellsAt_251 : decode cX3_tellsAt 251 = .ok (.aload_n 0, 1) := dk_42 (dk_at dksX3_tellsAt_9 23 rfl rfl)
theorem dX3_tellsAt_252 : decode cX3_tellsAt 252 = .ok (.getfield 48, 3) := dk_180 0 48 (dk_at dksX3_tellsAt_10 0 rfl rfl)
theorem dX3_tellsAt_255 : decode cX3_tellsAt 255 = .ok (.iload 4, 2) := dk_21 4 (dk_at dksX3_tellsAt_10 3 rfl rfl)
theorem dX3_tellsAt_257 : decode cX3_tellsAt 257 = .ok (.iaload, 1) := dk_46 (dk_at dksX3_tellsAt_10 5 rfl rfl)
theorem dX3_tellsAt_258 : decode cX3_tellsAt 258 = .ok (.invokevirtual 135, 3) := dk_182 0 135 (dk_at dksX3_tellsAt_10 6 rfl rfl)
theorem dX3_tellsAt_261 : decode cX3_tellsAt 261 = .ok (.ireturn, 1) := dk_172 (dk_at dksX3_tellsAt_10 9 rfl rfl)
theorem dX3_tellsAt_262 : decode cX3_tellsAt 262 = .ok (.iload_n 3, 1) := dk_29 (dk_at dksX3_tellsAt_10 10 rfl rfl)
theorem dX3_tellsAt_263 : decode cX3_tellsAt 263 = .ok (.iconst 1, 1) := dk_4 (dk_at dksX3_tellsAt_10 11 rfl rfl)
theorem dX3_tellsAt_264 : decode cX3_tellsAt 264 = .ok (.iadd, 1) := dk_96 (dk_at dksX3_tellsAt_10 12 rfl rfl)
theorem dX3_tellsAt_265 : decode cX3_tellsAt 265 = .ok (.aload_n 0, 1) := dk_42 (dk_at dksX3_tellsAt_10 13 rfl rfl)
theorem dX3_tellsAt_266 : decode cX3_tellsAt 266 = .ok (.getfield 117, 3) := dk_180 0 117 (dk_at dksX3_tellsAt_10 14 rfl rfl)
theorem dX3_tellsAt_269 : decode cX3_tellsAt 269 = .ok (.if_icmp .ge 15, 3) := dk_162 0 15 (dk_at dksX3_tellsAt_10 17 rfl rfl)
theorem dX3_tellsAt_272 : decode cX3_tellsAt 272 = .ok (.aload_n 0, 1) := dk_42 (dk_at dksX3_tellsAt_10 20 rfl rfl)
theorem dX3_tellsAt_273 : decode cX3_tellsAt 273 = .ok (.iload 5, 2) := dk_21 5 (dk_at dksX3_tellsAt_10 21 rfl rfl)
theorem dX3_tellsAt_275 : decode cX3_tellsAt 275 = .ok (.iload_n 3, 1) := dk_29 (dk_at dksX3_tellsAt_10 23 rfl rfl)
theorem dX3_tellsAt_276 : decode cX3_tellsAt 276 = .ok (.iconst 1, 1) := dk_4 (dk_at dksX3_tellsAt_11 0 rfl rfl)
theorem dX3_tellsAt_277 : decode cX3_tellsAt 277 = .ok (.iadd, 1) := dk_96 (dk_at dksX3_tellsAt_11 1 rfl rfl)
theorem dX3_tellsAt_278 : decode cX3_tellsAt 278 = .ok (.invokevirtual 107, 3) := dk_182 0 107 (dk_at dksX3_tellsAt_11 2 rfl rfl)
theorem dX3_tellsAt_281 : decode cX3_tellsAt 281 = .ok (.goto 15, 3) := dk_167 0 15 (dk_at dksX3_tellsAt_11 5 rfl rfl)
theorem dX3_tellsAt_284 : decode cX3_tellsAt 284 = .ok (.aload_n 0, 1) := dk_42 (dk_at dksX3_tellsAt_11 8 rfl rfl)
theorem dX3_tellsAt_285 : decode cX3_tellsAt 285 = .ok (.getfield 97, 3) := dk_180 0 97 (dk_at dksX3_tellsAt_11 9 rfl rfl)
theorem dX3_tellsAt_288 : decode cX3_tellsAt 288 = .ok (.ifCond .eq 7, 3) := dk_153 0 7 (dk_at dksX3_tellsAt_11 12 rfl rfl)
theorem dX3_tellsAt_291 : decode cX3_tellsAt 291 = .ok (.iconst 0, 1) := dk_3 (dk_at dksX3_tellsAt_11 15 rfl rfl)
theorem dX3_tellsAt_292 : decode cX3_tellsAt 292 = .ok (.goto 4, 3) := dk_167 0 4 (dk_at dksX3_tellsAt_11 16 rfl rfl)
theorem dX3_tellsAt_295 : decode cX3_tellsAt 295 = .ok (.iconst 2, 1) := dk_5 (dk_at dksX3_tellsAt_11 19 rfl rfl)
theorem dX3_tellsAt_296 : decode cX3_tellsAt 296 = .ok (.ireturn, 1) := dk_172 (dk_at dksX3_tellsAt_11 20 rfl rfl)
theorem dX3_tellsAt_297 : decode cX3_tellsAt 297 = .ok (.aload_n 0, 1) := dk_42 (dk_at dksX3_tellsAt_11 21 rfl rfl)
theorem dX3_tellsAt_298 : decode cX3_tellsAt 298 = .ok (.iload 6, 2) := dk_21 6 (dk_at dksX3_tellsAt_11 22 rfl rfl)
theorem dX3_tellsAt_300 : decode cX3_tellsAt 300 = .ok (.iload 5, 2) := dk_21 5 (dk_at dksX3_tellsAt_12 0 rfl rfl)
theorem dX3_tellsAt_302 : decode cX3_tellsAt 302 = .ok (.iload_n 3, 1) := dk_29 (dk_at dksX3_tellsAt_12 2 rfl rfl)
theorem dX3_tellsAt_303 : decode cX3_tellsAt 303 = .ok (.aload_n 0, 1) := dk_42 (dk_at dksX3_tellsAt_12 3 rfl rfl)
theorem dX3_tellsAt_304 : decode cX3_tellsAt 304 = .ok (.getfield 48, 3) := dk_180 0 48 (dk_at dksX3_tellsAt_12 4 rfl rfl)
theorem dX3_tellsAt_307 : decode cX3_tellsAt 307 = .ok (.iload 4, 2) := dk_21 4 (dk_at dksX3_tellsAt_12 7 rfl rfl)
theorem dX3_tellsAt_309 : decode cX3_tellsAt 309 = .ok (.iaload, 1) := dk_46 (dk_at dksX3_tellsAt_12 9 rfl rfl)
theorem dX3_tellsAt_310 : decode cX3_tellsAt 310 = .ok (.invokevirtual 139, 3) := dk_182 0 139 (dk_at dksX3_tellsAt_12 10 rfl rfl)
theorem dX3_tellsAt_313 : decode cX3_tellsAt 313 = .ok (.ireturn, 1) := dk_172 (dk_at dksX3_tellsAt_12 13 rfl rfl)
theorem dX3_tellsAt_314 : decode cX3_tellsAt 314 = .ok (.aload_n 0, 1) := dk_42 (dk_at dksX3_tellsAt_12 14 rfl rfl)
theorem dX3_tellsAt_315 : decode cX3_tellsAt 315 = .ok (.iload 5, 2) := dk_21 5 (dk_at dksX3_tellsAt_12 15 rfl rfl)
theorem dX3_tellsAt_317 : decode cX3_tellsAt 317 = .ok (.iload_n 3, 1) := dk_29 (dk_at dksX3_tellsAt_12 17 rfl rfl)
theorem dX3_tellsAt_318 : decode cX3_tellsAt 318 = .ok (.aload_n 0, 1) := dk_42 (dk_at dksX3_tellsAt_12 18 rfl rfl)
theorem dX3_tellsAt_319 : decode cX3_tellsAt 319 = .ok (.getfield 48, 3) := dk_180 0 48 (dk_at dksX3_tellsAt_12 19 rfl rfl)
theorem dX3_tellsAt_322 : decode cX3_tellsAt 322 = .ok (.iload 4, 2) := dk_21 4 (dk_at dksX3_tellsAt_12 22 rfl rfl)
theorem dX3_tellsAt_324 : decode cX3_tellsAt 324 = .ok (.iaload, 1) := dk_46 (dk_at dksX3_tellsAt_13 0 rfl rfl)
theorem dX3_tellsAt_325 : decode cX3_tellsAt 325 = .ok (.invokevirtual 142, 3) := dk_182 0 142 (dk_at dksX3_tellsAt_13 1 rfl rfl)
theorem dX3_tellsAt_328 : decode cX3_tellsAt 328 = .ok (.ireturn, 1) := dk_172 (dk_at dksX3_tellsAt_13 4 rfl rfl)
theorem dX3_tellsAt_329 : decode cX3_tellsAt 329 = .ok (.aload_n 0, 1) := dk_42 (dk_at dksX3_tellsAt_13 5 rfl rfl)
theorem dX3_tellsAt_330 : decode cX3_tellsAt 330 = .ok (.iload 5, 2) := dk_21 5 (dk_at dksX3_tellsAt_13 6 rfl rfl)
theorem dX3_tellsAt_332 : decode cX3_tellsAt 332 = .ok (.iload_n 3, 1) := dk_29 (dk_at dksX3_tellsAt_13 8 rfl rfl)
theorem dX3_tellsAt_333 : decode cX3_tellsAt 333 = .ok (.aload_n 0, 1) := dk_42 (dk_at dksX3_tellsAt_13 9 rfl rfl)
theorem dX3_tellsAt_334 : decode cX3_tellsAt 334 = .ok (.getfield 45, 3) := dk_180 0 45 (dk_at dksX3_tellsAt_13 10 rfl rfl)
theorem dX3_tellsAt_337 : decode cX3_tellsAt 337 = .ok (.iload 4, 2) := dk_21 4 (dk_at dksX3_tellsAt_13 13 rfl rfl)
theorem dX3_tellsAt_339 : decode cX3_tellsAt 339 = .ok (.iaload, 1) := dk_46 (dk_at dksX3_tellsAt_13 15 rfl rfl)
theorem dX3_tellsAt_340 : decode cX3_tellsAt 340 = .ok (.aload_n 0, 1) := dk_42 (dk_at dksX3_tellsAt_13 16 rfl rfl)
theorem dX3_tellsAt_341 : decode cX3_tellsAt 341 = .ok (.getfield 48, 3) := dk_180 0 48 (dk_at dksX3_tellsAt_13 17 rfl rfl)
theorem dX3_tellsAt_344 : decode cX3_tellsAt 344 = .ok (.iload 4, 2) := dk_21 4 (dk_at dksX3_tellsAt_13 20 rfl rfl)
theorem dX3_tellsAt_346 : decode cX3_tellsAt 346 = .ok (.iaload, 1) := dk_46 (dk_at dksX3_tellsAt_13 22 rfl rfl)
theorem dX3_tellsAt_347 : decode cX3_tellsAt 347 = .ok (.invokevirtual 145, 3) := dk_182 0 145 (dk_at dksX3_tellsAt_14 0 rfl rfl)
theorem dX3_tellsAt_350 : decode cX3_tellsAt 350 = .ok (.ireturn, 1) := dk_172 (dk_at dksX3_tellsAt_14 3 rfl rfl)
abbrev cX3_isValue : ByteArray := prog_13_method_22_code
def yX3_isValue : MethodName := ⟨RX3, "isValue", "(III)Z"⟩
def dkwX3_isValue_1 : List UInt8 := [160, 0, 7, 4, 167, 0, 17, 3, 167, 0, 13, 27, 29, 164, 0, 7, 4, 167, 0, 4, 3, 172]
abbrev dktX3_isValue_1 : List UInt8 := dkwX3_isValue_1 ++ []
def dkwX3_isValue_0 : List UInt8 := [28, 154, 0, 16, 27, 29, 162, 0, 7, 4, 167, 0, 35, 3, 167, 0, 31, 28, 4, 160, 0, 16, 27, 29]
abbrev dktX3_isValue_0 : List UInt8 := dkwX3_isValue_0 ++ dktX3_isValue_1
theorem dksX3_isValue_0 : cX3_isValue.data.toList.drop 0 = dktX3_isValue_0 := by decide +kernel
theorem dksX3_isValue_1 : cX3_isValue.data.toList.drop 24 = dktX3_isValue_1 := dk_seg dksX3_isValue_0 24 rfl rfl
theorem dX3_isValue_0 : decode cX3_isValue 0 = .ok (.iload_n 2, 1) := dk_28 (dk_at dksX3_isValue_0 0 rfl rfl)
theorem dX3_isValue_1 : decode cX3_isValue 1 = .ok (.ifCond .ne 16, 3) := dk_154 0 16 (dk_at dksX3_isValue_0 1 rfl rfl)
theorem dX3_isValue_4 : decode cX3_isValue 4 = .ok (.iload_n 1, 1) := dk_27 (dk_at dksX3_isValue_0 4 rfl rfl)
theorem dX3_isValue_5 : decode cX3_isValue 5 = .ok (.iload_n 3, 1) := dk_29 (dk_at dksX3_isValue_0 5 rfl rfl)
theorem dX3_isValue_6 : decode cX3_isValue 6 = .ok (.if_icmp .ge 7, 3) := dk_162 0 7 (dk_at dksX3_isValue_0 6 rfl rfl)
theorem dX3_isValue_9 : decode cX3_isValue 9 = .ok (.iconst 1, 1) := dk_4 (dk_at dksX3_isValue_0 9 rfl rfl)
theorem dX3_isValue_10 : decode cX3_isValue 10 = .ok (.goto 35, 3) := dk_167 0 35 (dk_at dksX3_isValue_0 10 rfl rfl)
theorem dX3_isValue_13 : decode cX3_isValue 13 = .ok (.iconst 0, 1) := dk_3 (dk_at dksX3_isValue_0 13 rfl rfl)
theorem dX3_isValue_14 : decode cX3_isValue 14 = .ok (.goto 31, 3) := dk_167 0 31 (dk_at dksX3_isValue_0 14 rfl rfl)
theorem dX3_isValue_17 : decode cX3_isValue 17 = .ok (.iload_n 2, 1) := dk_28 (dk_at dksX3_isValue_0 17 rfl rfl)
theorem dX3_isValue_18 : decode cX3_isValue 18 = .ok (.iconst 1, 1) := dk_4 (dk_at dksX3_isValue_0 18 rfl rfl)
theorem dX3_isValue_19 : decode cX3_isValue 19 = .ok (.if_icmp .ne 16, 3) := dk_160 0 16 (dk_at dksX3_isValue_0 19 rfl rfl)
theorem dX3_isValue_22 : decode cX3_isValue 22 = .ok (.iload_n 1, 1) := dk_27 (dk_at dksX3_isValue_0 22 rfl rfl)
theorem dX3_isValue_23 : decode cX3_isValue 23 = .ok (.iload_n 3, 1) := dk_29 (dk_at dksX3_isValue_0 23 rfl rfl)
theorem dX3_isValue_24 : decode cX3_isValue 24 = .ok (.if_icmp .ne 7, 3) := dk_160 0 7 (dk_at dksX3_isValue_1 0 rfl rfl)
theorem dX3_isValue_27 : decode cX3_isValue 27 = .ok (.iconst 1, 1) := dk_4 (dk_at dksX3_isValue_1 3 rfl rfl)
theorem dX3_isValue_28 : decode cX3_isValue 28 = .ok (.goto 17, 3) := dk_167 0 17 (dk_at dksX3_isValue_1 4 rfl rfl)
theorem dX3_isValue_31 : decode cX3_isValue 31 = .ok (.iconst 0, 1) := dk_3 (dk_at dksX3_isValue_1 7 rfl rfl)
theorem dX3_isValue_32 : decode cX3_isValue 32 = .ok (.goto 13, 3) := dk_167 0 13 (dk_at dksX3_isValue_1 8 rfl rfl)
theorem dX3_isValue_35 : decode cX3_isValue 35 = .ok (.iload_n 1, 1) := dk_27 (dk_at dksX3_isValue_1 11 rfl rfl)
theorem dX3_isValue_36 : decode cX3_isValue 36 = .ok (.iload_n 3, 1) := dk_29 (dk_at dksX3_isValue_1 12 rfl rfl)
theorem dX3_isValue_37 : decode cX3_isValue 37 = .ok (.if_icmp .le 7, 3) := dk_164 0 7 (dk_at dksX3_isValue_1 13 rfl rfl)
theorem dX3_isValue_40 : decode cX3_isValue 40 = .ok (.iconst 1, 1) := dk_4 (dk_at dksX3_isValue_1 16 rfl rfl)
theorem dX3_isValue_41 : decode cX3_isValue 41 = .ok (.goto 4, 3) := dk_167 0 4 (dk_at dksX3_isValue_1 17 rfl rfl)
theorem dX3_isValue_44 : decode cX3_isValue 44 = .ok (.iconst 0, 1) := dk_3 (dk_at dksX3_isValue_1 20 rfl rfl)
theorem dX3_isValue_45 : decode cX3_isValue 45 = .ok (.ireturn, 1) := dk_172 (dk_at dksX3_isValue_1 21 rfl rfl)
abbrev cX3_at : ByteArray := prog_13_method_14_code
def yX3_at : MethodName := ⟨RX3, "at", "(II)I"⟩
def dkwX3_at_0 : List UInt8 := [42, 180, 0, 78, 16, 80, 27, 104, 28, 96, 46, 172]
abbrev dktX3_at_0 : List UInt8 := dkwX3_at_0 ++ []
theorem dksX3_at_0 : cX3_at.data.toList.drop 0 = dktX3_at_0 := by decide +kernel
theorem dX3_at_0 : decode cX3_at 0 = .ok (.aload_n 0, 1) := dk_42 (dk_at dksX3_at_0 0 rfl rfl)
theorem dX3_at_1 : decode cX3_at 1 = .ok (.getfield 78, 3) := dk_180 0 78 (dk_at dksX3_at_0 1 rfl rfl)
theorem dX3_at_4 : decode cX3_at 4 = .ok (.bipush 80, 2) := dk_16 80 (dk_at dksX3_at_0 4 rfl rfl)
theorem dX3_at_6 : decode cX3_at 6 = .ok (.iload_n 1, 1) := dk_27 (dk_at dksX3_at_0 6 rfl rfl)
theorem dX3_at_7 : decode cX3_at 7 = .ok (.imul, 1) := dk_104 (dk_at dksX3_at_0 7 rfl rfl)
theorem dX3_at_8 : decode cX3_at 8 = .ok (.iload_n 2, 1) := dk_28 (dk_at dksX3_at_0 8 rfl rfl)
theorem dX3_at_9 : decode cX3_at 9 = .ok (.iadd, 1) := dk_96 (dk_at dksX3_at_0 9 rfl rfl)
theorem dX3_at_10 : decode cX3_at 10 = .ok (.iaload, 1) := dk_46 (dk_at dksX3_at_0 10 rfl rfl)
theorem dX3_at_11 : decode cX3_at 11 = .ok (.ireturn, 1) := dk_172 (dk_at dksX3_at_0 11 rfl rfl)
abbrev cX3_not : ByteArray := prog_13_method_11_code
def yX3_not : MethodName := ⟨RX3, "not", "(I)I"⟩
def dkwX3_not_0 : List UInt8 := [26, 5, 160, 0, 7, 5, 167, 0, 6, 4, 26, 100, 172]
abbrev dktX3_not_0 : List UInt8 := dkwX3_not_0 ++ []
theorem dksX3_not_0 : cX3_not.data.toList.drop 0 = dktX3_not_0 := by decide +kernel
theorem dX3_not_0 : decode cX3_not 0 = .ok (.iload_n 0, 1) := dk_26 (dk_at dksX3_not_0 0 rfl rfl)
theorem dX3_not_1 : decode cX3_not 1 = .ok (.iconst 2, 1) := dk_5 (dk_at dksX3_not_0 1 rfl rfl)
theorem dX3_not_2 : decode cX3_not 2 = .ok (.if_icmp .ne 7, 3) := dk_160 0 7 (dk_at dksX3_not_0 2 rfl rfl)
theorem dX3_not_5 : decode cX3_not 5 = .ok (.iconst 2, 1) := dk_5 (dk_at dksX3_not_0 5 rfl rfl)
theorem dX3_not_6 : decode cX3_not 6 = .ok (.goto 6, 3) := dk_167 0 6 (dk_at dksX3_not_0 6 rfl rfl)
theorem dX3_not_9 : decode cX3_not 9 = .ok (.iconst 1, 1) := dk_4 (dk_at dksX3_not_0 9 rfl rfl)
theorem dX3_not_10 : decode cX3_not 10 = .ok (.iload_n 0, 1) := dk_26 (dk_at dksX3_not_0 10 rfl rfl)
theorem dX3_not_11 : decode cX3_not 11 = .ok (.isub, 1) := dk_100 (dk_at dksX3_not_0 11 rfl rfl)
theorem dX3_not_12 : decode cX3_not 12 = .ok (.ireturn, 1) := dk_172 (dk_at dksX3_not_0 12 rfl rfl)
abbrev cX3_and : ByteArray := prog_13_method_12_code
def yX3_and : MethodName := ⟨RX3, "and", "(II)I"⟩
def dkwX3_and_1 : List UInt8 := [167, 0, 4, 4, 172]
abbrev dktX3_and_1 : List UInt8 := dkwX3_and_1 ++ []
def dkwX3_and_0 : List UInt8 := [26, 153, 0, 7, 27, 154, 0, 7, 3, 167, 0, 18, 26, 5, 159, 0, 8, 27, 5, 160, 0, 7, 5]
abbrev dktX3_and_0 : List UInt8 := dkwX3_and_0 ++ dktX3_and_1
theorem dksX3_and_0 : cX3_and.data.toList.drop 0 = dktX3_and_0 := by decide +kernel
theorem dksX3_and_1 : cX3_and.data.toList.drop 23 = dktX3_and_1 := dk_seg dksX3_and_0 23 rfl rfl
theorem dX3_and_0 : decode cX3_and 0 = .ok (.iload_n 0, 1) := dk_26 (dk_at dksX3_and_0 0 rfl rfl)
theorem dX3_and_1 : decode cX3_and 1 = .ok (.ifCond .eq 7, 3) := dk_153 0 7 (dk_at dksX3_and_0 1 rfl rfl)
theorem dX3_and_4 : decode cX3_and 4 = .ok (.iload_n 1, 1) := dk_27 (dk_at dksX3_and_0 4 rfl rfl)
theorem dX3_and_5 : decode cX3_and 5 = .ok (.ifCond .ne 7, 3) := dk_154 0 7 (dk_at dksX3_and_0 5 rfl rfl)
theorem dX3_and_8 : decode cX3_and 8 = .ok (.iconst 0, 1) := dk_3 (dk_at dksX3_and_0 8 rfl rfl)
theorem dX3_and_9 : decode cX3_and 9 = .ok (.goto 18, 3) := dk_167 0 18 (dk_at dksX3_and_0 9 rfl rfl)
theorem dX3_and_12 : decode cX3_and 12 = .ok (.iload_n 0, 1) := dk_26 (dk_at dksX3_and_0 12 rfl rfl)
theorem dX3_and_13 : decode cX3_and 13 = .ok (.iconst 2, 1) := dk_5 (dk_at dksX3_and_0 13 rfl rfl)
theorem dX3_and_14 : decode cX3_and 14 = .ok (.if_icmp .eq 8, 3) := dk_159 0 8 (dk_at dksX3_and_0 14 rfl rfl)
theorem dX3_and_17 : decode cX3_and 17 = .ok (.iload_n 1, 1) := dk_27 (dk_at dksX3_and_0 17 rfl rfl)
theorem dX3_and_18 : decode cX3_and 18 = .ok (.iconst 2, 1) := dk_5 (dk_at dksX3_and_0 18 rfl rfl)
theorem dX3_and_19 : decode cX3_and 19 = .ok (.if_icmp .ne 7, 3) := dk_160 0 7 (dk_at dksX3_and_0 19 rfl rfl)
theorem dX3_and_22 : decode cX3_and 22 = .ok (.iconst 2, 1) := dk_5 (dk_at dksX3_and_0 22 rfl rfl)
theorem dX3_and_23 : decode cX3_and 23 = .ok (.goto 4, 3) := dk_167 0 4 (dk_at dksX3_and_1 0 rfl rfl)
theorem dX3_and_26 : decode cX3_and 26 = .ok (.iconst 1, 1) := dk_4 (dk_at dksX3_and_1 3 rfl rfl)
theorem dX3_and_27 : decode cX3_and 27 = .ok (.ireturn, 1) := dk_172 (dk_at dksX3_and_1 4 rfl rfl)
abbrev cX3_or : ByteArray := prog_13_method_13_code
def yX3_or : MethodName := ⟨RX3, "or", "(II)I"⟩
def dkwX3_or_1 : List UInt8 := [5, 167, 0, 4, 3, 172]
abbrev dktX3_or_1 : List UInt8 := dkwX3_or_1 ++ []
def dkwX3_or_0 : List UInt8 := [26, 4, 159, 0, 8, 27, 4, 160, 0, 7, 4, 167, 0, 18, 26, 5, 159, 0, 8, 27, 5, 160, 0, 7]
abbrev dktX3_or_0 : List UInt8 := dkwX3_or_0 ++ dktX3_or_1
theorem dksX3_or_0 : cX3_or.data.toList.drop 0 = dktX3_or_0 := by decide +kernel
theorem dksX3_or_1 : cX3_or.data.toList.drop 24 = dktX3_or_1 := dk_seg dksX3_or_0 24 rfl rfl
theorem dX3_or_0 : decode cX3_or 0 = .ok (.iload_n 0, 1) := dk_26 (dk_at dksX3_or_0 0 rfl rfl)
theorem dX3_or_1 : decode cX3_or 1 = .ok (.iconst 1, 1) := dk_4 (dk_at dksX3_or_0 1 rfl rfl)
theorem dX3_or_2 : decode cX3_or 2 = .ok (.if_icmp .eq 8, 3) := dk_159 0 8 (dk_at dksX3_or_0 2 rfl rfl)
theorem dX3_or_5 : decode cX3_or 5 = .ok (.iload_n 1, 1) := dk_27 (dk_at dksX3_or_0 5 rfl rfl)
theorem dX3_or_6 : decode cX3_or 6 = .ok (.iconst 1, 1) := dk_4 (dk_at dksX3_or_0 6 rfl rfl)
theorem dX3_or_7 : decode cX3_or 7 = .ok (.if_icmp .ne 7, 3) := dk_160 0 7 (dk_at dksX3_or_0 7 rfl rfl)
theorem dX3_or_10 : decode cX3_or 10 = .ok (.iconst 1, 1) := dk_4 (dk_at dksX3_or_0 10 rfl rfl)
theorem dX3_or_11 : decode cX3_or 11 = .ok (.goto 18, 3) := dk_167 0 18 (dk_at dksX3_or_0 11 rfl rfl)
theorem dX3_or_14 : decode cX3_or 14 = .ok (.iload_n 0, 1) := dk_26 (dk_at dksX3_or_0 14 rfl rfl)
theorem dX3_or_15 : decode cX3_or 15 = .ok (.iconst 2, 1) := dk_5 (dk_at dksX3_or_0 15 rfl rfl)
theorem dX3_or_16 : decode cX3_or 16 = .ok (.if_icmp .eq 8, 3) := dk_159 0 8 (dk_at dksX3_or_0 16 rfl rfl)
theorem dX3_or_19 : decode cX3_or 19 = .ok (.iload_n 1, 1) := dk_27 (dk_at dksX3_or_0 19 rfl rfl)
theorem dX3_or_20 : decode cX3_or 20 = .ok (.iconst 2, 1) := dk_5 (dk_at dksX3_or_0 20 rfl rfl)
theorem dX3_or_21 : decode cX3_or 21 = .ok (.if_icmp .ne 7, 3) := dk_160 0 7 (dk_at dksX3_or_0 21 rfl rfl)
theorem dX3_or_24 : decode cX3_or 24 = .ok (.iconst 2, 1) := dk_5 (dk_at dksX3_or_1 0 rfl rfl)
theorem dX3_or_25 : decode cX3_or 25 = .ok (.goto 4, 3) := dk_167 0 4 (dk_at dksX3_or_1 1 rfl rfl)
theorem dX3_or_28 : decode cX3_or 28 = .ok (.iconst 0, 1) := dk_3 (dk_at dksX3_or_1 4 rfl rfl)
theorem dX3_or_29 : decode cX3_or 29 = .ok (.ireturn, 1) := dk_172 (dk_at dksX3_or_1 5 rfl rfl)
abbrev cX3_sinceAt : ByteArray := prog_13_method_17_code
def yX3_sinceAt : MethodName := ⟨RX3, "sinceAt", "(IIII)I"⟩
def dkwX3_sinceAt_2 : List UInt8 := [42, 27, 21, 7, 182, 0, 107, 184, 0, 111, 54, 6, 132, 7, 255, 167, 255, 203, 21, 5, 172]
abbrev dktX3_sinceAt_2 : List UInt8 := dkwX3_sinceAt_2 ++ []
def dkwX3_sinceAt_1 : List UInt8 := [153, 0, 42, 21, 5, 42, 28, 21, 7, 182, 0, 107, 21, 6, 184, 0, 111, 184, 0, 114, 54, 5, 21, 6]
abbrev dktX3_sinceAt_1 : List UInt8 := dkwX3_sinceAt_1 ++ dktX3_sinceAt_2
def dkwX3_sinceAt_0 : List UInt8 := [3, 54, 5, 4, 54, 6, 29, 54, 7, 21, 7, 155, 0, 54, 42, 21, 7, 29, 21, 4, 182, 0, 104]
abbrev dktX3_sinceAt_0 : List UInt8 := dkwX3_sinceAt_0 ++ dktX3_sinceAt_1
theorem dksX3_sinceAt_0 : cX3_sinceAt.data.toList.drop 0 = dktX3_sinceAt_0 := by decide +kernel
theorem dksX3_sinceAt_1 : cX3_sinceAt.data.toList.drop 23 = dktX3_sinceAt_1 := dk_seg dksX3_sinceAt_0 23 rfl rfl
theorem dksX3_sinceAt_2 : cX3_sinceAt.data.toList.drop 47 = dktX3_sinceAt_2 := dk_seg dksX3_sinceAt_1 24 rfl rfl
theorem dX3_sinceAt_0 : decode cX3_sinceAt 0 = .ok (.iconst 0, 1) := dk_3 (dk_at dksX3_sinceAt_0 0 rfl rfl)
theorem dX3_sinceAt_1 : decode cX3_sinceAt 1 = .ok (.istore 5, 2) := dk_54 5 (dk_at dksX3_sinceAt_0 1 rfl rfl)
theorem dX3_sinceAt_3 : decode cX3_sinceAt 3 = .ok (.iconst 1, 1) := dk_4 (dk_at dksX3_sinceAt_0 3 rfl rfl)
theorem dX3_sinceAt_4 : decode cX3_sinceAt 4 = .ok (.istore 6, 2) := dk_54 6 (dk_at dksX3_sinceAt_0 4 rfl rfl)
theorem dX3_sinceAt_6 : decode cX3_sinceAt 6 = .ok (.iload_n 3, 1) := dk_29 (dk_at dksX3_sinceAt_0 6 rfl rfl)
theorem dX3_sinceAt_7 : decode cX3_sinceAt 7 = .ok (.istore 7, 2) := dk_54 7 (dk_at dksX3_sinceAt_0 7 rfl rfl)
theorem dX3_sinceAt_9 : decode cX3_sinceAt 9 = .ok (.iload 7, 2) := dk_21 7 (dk_at dksX3_sinceAt_0 9 rfl rfl)
theorem dX3_sinceAt_11 : decode cX3_sinceAt 11 = .ok (.ifCond .lt 54, 3) := dk_155 0 54 (dk_at dksX3_sinceAt_0 11 rfl rfl)
theorem dX3_sinceAt_14 : decode cX3_sinceAt 14 = .ok (.aload_n 0, 1) := dk_42 (dk_at dksX3_sinceAt_0 14 rfl rfl)
theorem dX3_sinceAt_15 : decode cX3_sinceAt 15 = .ok (.iload 7, 2) := dk_21 7 (dk_at dksX3_sinceAt_0 15 rfl rfl)
theorem dX3_sinceAt_17 : decode cX3_sinceAt 17 = .ok (.iload_n 3, 1) := dk_29 (dk_at dksX3_sinceAt_0 17 rfl rfl)
theorem dX3_sinceAt_18 : decode cX3_sinceAt 18 = .ok (.iload 4, 2) := dk_21 4 (dk_at dksX3_sinceAt_0 18 rfl rfl)
theorem dX3_sinceAt_20 : decode cX3_sinceAt 20 = .ok (.invokevirtual 104, 3) := dk_182 0 104 (dk_at dksX3_sinceAt_0 20 rfl rfl)
theorem dX3_sinceAt_23 : decode cX3_sinceAt 23 = .ok (.ifCond .eq 42, 3) := dk_153 0 42 (dk_at dksX3_sinceAt_1 0 rfl rfl)
theorem dX3_sinceAt_26 : decode cX3_sinceAt 26 = .ok (.iload 5, 2) := dk_21 5 (dk_at dksX3_sinceAt_1 3 rfl rfl)
theorem dX3_sinceAt_28 : decode cX3_sinceAt 28 = .ok (.aload_n 0, 1) := dk_42 (dk_at dksX3_sinceAt_1 5 rfl rfl)
theorem dX3_sinceAt_29 : decode cX3_sinceAt 29 = .ok (.iload_n 2, 1) := dk_28 (dk_at dksX3_sinceAt_1 6 rfl rfl)
theorem dX3_sinceAt_30 : decode cX3_sinceAt 30 = .ok (.iload 7, 2) := dk_21 7 (dk_at dksX3_sinceAt_1 7 rfl rfl)
theorem dX3_sinceAt_32 : decode cX3_sinceAt 32 = .ok (.invokevirtual 107, 3) := dk_182 0 107 (dk_at dksX3_sinceAt_1 9 rfl rfl)
theorem dX3_sinceAt_35 : decode cX3_sinceAt 35 = .ok (.iload 6, 2) := dk_21 6 (dk_at dksX3_sinceAt_1 12 rfl rfl)
theorem dX3_sinceAt_37 : decode cX3_sinceAt 37 = .ok (.invokestatic 111, 3) := dk_184 0 111 (dk_at dksX3_sinceAt_1 14 rfl rfl)
theorem dX3_sinceAt_40 : decode cX3_sinceAt 40 = .ok (.invokestatic 114, 3) := dk_184 0 114 (dk_at dksX3_sinceAt_1 17 rfl rfl)
theorem dX3_sinceAt_43 : decode cX3_sinceAt 43 = .ok (.istore 5, 2) := dk_54 5 (dk_at dksX3_sinceAt_1 20 rfl rfl)
theorem dX3_sinceAt_45 : decode cX3_sinceAt 45 = .ok (.iload 6, 2) := dk_21 6 (dk_at dksX3_sinceAt_1 22 rfl rfl)
theorem dX3_sinceAt_47 : decode cX3_sinceAt 47 = .ok (.aload_n 0, 1) := dk_42 (dk_at dksX3_sinceAt_2 0 rfl rfl)
theorem dX3_sinceAt_48 : decode cX3_sinceAt 48 = .ok (.iload_n 1, 1) := dk_27 (dk_at dksX3_sinceAt_2 1 rfl rfl)
theorem dX3_sinceAt_49 : decode cX3_sinceAt 49 = .ok (.iload 7, 2) := dk_21 7 (dk_at dksX3_sinceAt_2 2 rfl rfl)
theorem dX3_sinceAt_51 : decode cX3_sinceAt 51 = .ok (.invokevirtual 107, 3) := dk_182 0 107 (dk_at dksX3_sinceAt_2 4 rfl rfl)
theorem dX3_sinceAt_54 : decode cX3_sinceAt 54 = .ok (.invokestatic 111, 3) := dk_184 0 111 (dk_at dksX3_sinceAt_2 7 rfl rfl)
theorem dX3_sinceAt_57 : decode cX3_sinceAt 57 = .ok (.istore 6, 2) := dk_54 6 (dk_at dksX3_sinceAt_2 10 rfl rfl)
theorem dX3_sinceAt_59 : decode cX3_sinceAt 59 = .ok (.iinc 7 (-1), 3) := dk_132 7 255 (dk_at dksX3_sinceAt_2 12 rfl rfl)
theorem dX3_sinceAt_62 : decode cX3_sinceAt 62 = .ok (.goto (-53), 3) := dk_167 255 203 (dk_at dksX3_sinceAt_2 15 rfl rfl)
theorem dX3_sinceAt_65 : decode cX3_sinceAt 65 = .ok (.iload 5, 2) := dk_21 5 (dk_at dksX3_sinceAt_2 18 rfl rfl)
theorem dX3_sinceAt_67 : decode cX3_sinceAt 67 = .ok (.ireturn, 1) := dk_172 (dk_at dksX3_sinceAt_2 20 rfl rfl)
abbrev cX3_isNear : ByteArray := prog_13_method_15_code
def yX3_isNear : MethodName := ⟨RX3, "isNear", "(III)Z"⟩
def dkwX3_isNear_1 : List UInt8 := [27, 46, 46, 100, 29, 163, 0, 7, 4, 167, 0, 4, 3, 172]
abbrev dktX3_isNear_1 : List UInt8 := dkwX3_isNear_1 ++ []
def dkwX3_isNear_0 : List UInt8 := [29, 2, 159, 0, 30, 42, 180, 0, 20, 42, 180, 0, 72, 28, 46, 46, 42, 180, 0, 20, 42, 180, 0, 72]
abbrev dktX3_isNear_0 : List UInt8 := dkwX3_isNear_0 ++ dktX3_isNear_1
theorem dksX3_isNear_0 : cX3_isNear.data.toList.drop 0 = dktX3_isNear_0 := by decide +kernel
theorem dksX3_isNear_1 : cX3_isNear.data.toList.drop 24 = dktX3_isNear_1 := dk_seg dksX3_isNear_0 24 rfl rfl
theorem dX3_isNear_0 : decode cX3_isNear 0 = .ok (.iload_n 3, 1) := dk_29 (dk_at dksX3_isNear_0 0 rfl rfl)
theorem dX3_isNear_1 : decode cX3_isNear 1 = .ok (.iconst (-1), 1) := dk_2 (dk_at dksX3_isNear_0 1 rfl rfl)
theorem dX3_isNear_2 : decode cX3_isNear 2 = .ok (.if_icmp .eq 30, 3) := dk_159 0 30 (dk_at dksX3_isNear_0 2 rfl rfl)
theorem dX3_isNear_5 : decode cX3_isNear 5 = .ok (.aload_n 0, 1) := dk_42 (dk_at dksX3_isNear_0 5 rfl rfl)
theorem dX3_isNear_6 : decode cX3_isNear 6 = .ok (.getfield 20, 3) := dk_180 0 20 (dk_at dksX3_isNear_0 6 rfl rfl)
theorem dX3_isNear_9 : decode cX3_isNear 9 = .ok (.aload_n 0, 1) := dk_42 (dk_at dksX3_isNear_0 9 rfl rfl)
theorem dX3_isNear_10 : decode cX3_isNear 10 = .ok (.getfield 72, 3) := dk_180 0 72 (dk_at dksX3_isNear_0 10 rfl rfl)
theorem dX3_isNear_13 : decode cX3_isNear 13 = .ok (.iload_n 2, 1) := dk_28 (dk_at dksX3_isNear_0 13 rfl rfl)
theorem dX3_isNear_14 : decode cX3_isNear 14 = .ok (.iaload, 1) := dk_46 (dk_at dksX3_isNear_0 14 rfl rfl)
theorem dX3_isNear_15 : decode cX3_isNear 15 = .ok (.iaload, 1) := dk_46 (dk_at dksX3_isNear_0 15 rfl rfl)
theorem dX3_isNear_16 : decode cX3_isNear 16 = .ok (.aload_n 0, 1) := dk_42 (dk_at dksX3_isNear_0 16 rfl rfl)
theorem dX3_isNear_17 : decode cX3_isNear 17 = .ok (.getfield 20, 3) := dk_180 0 20 (dk_at dksX3_isNear_0 17 rfl rfl)
theorem dX3_isNear_20 : decode cX3_isNear 20 = .ok (.aload_n 0, 1) := dk_42 (dk_at dksX3_isNear_0 20 rfl rfl)
theorem dX3_isNear_21 : decode cX3_isNear 21 = .ok (.getfield 72, 3) := dk_180 0 72 (dk_at dksX3_isNear_0 21 rfl rfl)
theorem dX3_isNear_24 : decode cX3_isNear 24 = .ok (.iload_n 1, 1) := dk_27 (dk_at dksX3_isNear_1 0 rfl rfl)
theorem dX3_isNear_25 : decode cX3_isNear 25 = .ok (.iaload, 1) := dk_46 (dk_at dksX3_isNear_1 1 rfl rfl)
theorem dX3_isNear_26 : decode cX3_isNear 26 = .ok (.iaload, 1) := dk_46 (dk_at dksX3_isNear_1 2 rfl rfl)
theorem dX3_isNear_27 : decode cX3_isNear 27 = .ok (.isub, 1) := dk_100 (dk_at dksX3_isNear_1 3 rfl rfl)
theorem dX3_isNear_28 : decode cX3_isNear 28 = .ok (.iload_n 3, 1) := dk_29 (dk_at dksX3_isNear_1 4 rfl rfl)
theorem dX3_isNear_29 : decode cX3_isNear 29 = .ok (.if_icmp .gt 7, 3) := dk_163 0 7 (dk_at dksX3_isNear_1 5 rfl rfl)
theorem dX3_isNear_32 : decode cX3_isNear 32 = .ok (.iconst 1, 1) := dk_4 (dk_at dksX3_isNear_1 8 rfl rfl)
theorem dX3_isNear_33 : decode cX3_isNear 33 = .ok (.goto 4, 3) := dk_167 0 4 (dk_at dksX3_isNear_1 9 rfl rfl)
theorem dX3_isNear_36 : decode cX3_isNear 36 = .ok (.iconst 0, 1) := dk_3 (dk_at dksX3_isNear_1 12 rfl rfl)
theorem dX3_isNear_37 : decode cX3_isNear 37 = .ok (.ireturn, 1) := dk_172 (dk_at dksX3_isNear_1 13 rfl rfl)
abbrev cX3_onceAt : ByteArray := prog_13_method_18_code
def yX3_onceAt : MethodName := ⟨RX3, "onceAt", "(III)I"⟩
def dkwX3_onceAt_1 : List UInt8 := [42, 27, 21, 5, 182, 0, 107, 184, 0, 114, 54, 4, 132, 5, 255, 167, 255, 223, 21, 4, 172]
abbrev dktX3_onceAt_1 : List UInt8 := dkwX3_onceAt_1 ++ []
def dkwX3_onceAt_0 : List UInt8 := [3, 54, 4, 28, 54, 5, 21, 5, 155, 0, 34, 42, 21, 5, 28, 29, 182, 0, 104, 153, 0, 23, 21, 4]
abbrev dktX3_onceAt_0 : List UInt8 := dkwX3_onceAt_0 ++ dktX3_onceAt_1
theorem dksX3_onceAt_0 : cX3_onceAt.data.toList.drop 0 = dktX3_onceAt_0 := by decide +kernel
theorem dksX3_onceAt_1 : cX3_onceAt.data.toList.drop 24 = dktX3_onceAt_1 := dk_seg dksX3_onceAt_0 24 rfl rfl
theorem dX3_onceAt_0 : decode cX3_onceAt 0 = .ok (.iconst 0, 1) := dk_3 (dk_at dksX3_onceAt_0 0 rfl rfl)
theorem dX3_onceAt_1 : decode cX3_onceAt 1 = .ok (.istore 4, 2) := dk_54 4 (dk_at dksX3_onceAt_0 1 rfl rfl)
theorem dX3_onceAt_3 : decode cX3_onceAt 3 = .ok (.iload_n 2, 1) := dk_28 (dk_at dksX3_onceAt_0 3 rfl rfl)
theorem dX3_onceAt_4 : decode cX3_onceAt 4 = .ok (.istore 5, 2) := dk_54 5 (dk_at dksX3_onceAt_0 4 rfl rfl)
theorem dX3_onceAt_6 : decode cX3_onceAt 6 = .ok (.iload 5, 2) := dk_21 5 (dk_at dksX3_onceAt_0 6 rfl rfl)
theorem dX3_onceAt_8 : decode cX3_onceAt 8 = .ok (.ifCond .lt 34, 3) := dk_155 0 34 (dk_at dksX3_onceAt_0 8 rfl rfl)
theorem dX3_onceAt_11 : decode cX3_onceAt 11 = .ok (.aload_n 0, 1) := dk_42 (dk_at dksX3_onceAt_0 11 rfl rfl)
theorem dX3_onceAt_12 : decode cX3_onceAt 12 = .ok (.iload 5, 2) := dk_21 5 (dk_at dksX3_onceAt_0 12 rfl rfl)
theorem dX3_onceAt_14 : decode cX3_onceAt 14 = .ok (.iload_n 2, 1) := dk_28 (dk_at dksX3_onceAt_0 14 rfl rfl)
theorem dX3_onceAt_15 : decode cX3_onceAt 15 = .ok (.iload_n 3, 1) := dk_29 (dk_at dksX3_onceAt_0 15 rfl rfl)
theorem dX3_onceAt_16 : decode cX3_onceAt 16 = .ok (.invokevirtual 104, 3) := dk_182 0 104 (dk_at dksX3_onceAt_0 16 rfl rfl)
theorem dX3_onceAt_19 : decode cX3_onceAt 19 = .ok (.ifCond .eq 23, 3) := dk_153 0 23 (dk_at dksX3_onceAt_0 19 rfl rfl)
theorem dX3_onceAt_22 : decode cX3_onceAt 22 = .ok (.iload 4, 2) := dk_21 4 (dk_at dksX3_onceAt_0 22 rfl rfl)
theorem dX3_onceAt_24 : decode cX3_onceAt 24 = .ok (.aload_n 0, 1) := dk_42 (dk_at dksX3_onceAt_1 0 rfl rfl)
theorem dX3_onceAt_25 : decode cX3_onceAt 25 = .ok (.iload_n 1, 1) := dk_27 (dk_at dksX3_onceAt_1 1 rfl rfl)
theorem dX3_onceAt_26 : decode cX3_onceAt 26 = .ok (.iload 5, 2) := dk_21 5 (dk_at dksX3_onceAt_1 2 rfl rfl)
theorem dX3_onceAt_28 : decode cX3_onceAt 28 = .ok (.invokevirtual 107, 3) := dk_182 0 107 (dk_at dksX3_onceAt_1 4 rfl rfl)
theorem dX3_onceAt_31 : decode cX3_onceAt 31 = .ok (.invokestatic 114, 3) := dk_184 0 114 (dk_at dksX3_onceAt_1 7 rfl rfl)
theorem dX3_onceAt_34 : decode cX3_onceAt 34 = .ok (.istore 4, 2) := dk_54 4 (dk_at dksX3_onceAt_1 10 rfl rfl)
theorem dX3_onceAt_36 : decode cX3_onceAt 36 = .ok (.iinc 5 (-1), 3) := dk_132 5 255 (dk_at dksX3_onceAt_1 12 rfl rfl)
theorem dX3_onceAt_39 : decode cX3_onceAt 39 = .ok (.goto (-33), 3) := dk_167 255 223 (dk_at dksX3_onceAt_1 15 rfl rfl)
theorem dX3_onceAt_42 : decode cX3_onceAt 42 = .ok (.iload 4, 2) := dk_21 4 (dk_at dksX3_onceAt_1 18 rfl rfl)
theorem dX3_onceAt_44 : decode cX3_onceAt 44 = .ok (.ireturn, 1) := dk_172 (dk_at dksX3_onceAt_1 20 rfl rfl)
abbrev cX3_untilAt : ByteArray := prog_13_method_19_code
def yX3_untilAt : MethodName := ⟨RX3, "untilAt", "(IIII)I"⟩
def dkwX3_untilAt_4 : List UInt8 := [167, 0, 5, 21, 5, 172]
abbrev dktX3_untilAt_4 : List UInt8 := dkwX3_untilAt_4 ++ []
def dkwX3_untilAt_3 : List UInt8 := [167, 255, 194, 42, 29, 21, 4, 182, 0, 120, 153, 0, 17, 21, 5, 5, 21, 6, 184, 0, 111, 184, 0, 114]
abbrev dktX3_untilAt_3 : List UInt8 := dkwX3_untilAt_3 ++ dktX3_untilAt_4
def dkwX3_untilAt_2 : List UInt8 := [167, 0, 5, 21, 5, 54, 5, 21, 6, 42, 27, 21, 7, 182, 0, 107, 184, 0, 111, 54, 6, 132, 7, 1]
abbrev dktX3_untilAt_2 : List UInt8 := dkwX3_untilAt_2 ++ dktX3_untilAt_3
def dkwX3_untilAt_1 : List UInt8 := [182, 0, 104, 153, 0, 23, 21, 5, 42, 28, 21, 7, 182, 0, 107, 21, 6, 184, 0, 111, 184, 0, 114]
abbrev dktX3_untilAt_1 : List UInt8 := dkwX3_untilAt_1 ++ dktX3_untilAt_2
def dkwX3_untilAt_0 : List UInt8 := [3, 54, 5, 4, 54, 6, 29, 54, 7, 21, 7, 42, 180, 0, 117, 162, 0, 59, 42, 29, 21, 7, 21, 4]
abbrev dktX3_untilAt_0 : List UInt8 := dkwX3_untilAt_0 ++ dktX3_untilAt_1
theorem dksX3_untilAt_0 : cX3_untilAt.data.toList.drop 0 = dktX3_untilAt_0 := by decide +kernel
theorem dksX3_untilAt_1 : cX3_untilAt.data.toList.drop 24 = dktX3_untilAt_1 := dk_seg dksX3_untilAt_0 24 rfl rfl
theorem dksX3_untilAt_2 : cX3_untilAt.data.toList.drop 47 = dktX3_untilAt_2 := dk_seg dksX3_untilAt_1 23 rfl rfl
theorem dksX3_untilAt_3 : cX3_untilAt.data.toList.drop 71 = dktX3_untilAt_3 := dk_seg dksX3_untilAt_2 24 rfl rfl
theorem dksX3_untilAt_4 : cX3_untilAt.data.toList.drop 95 = dktX3_untilAt_4 := dk_seg dksX3_untilAt_3 24 rfl rfl
theorem dX3_untilAt_0 : decode cX3_untilAt 0 = .ok (.iconst 0, 1) := dk_3 (dk_at dksX3_untilAt_0 0 rfl rfl)
theorem dX3_untilAt_1 : decode cX3_untilAt 1 = .ok (.istore 5, 2) := dk_54 5 (dk_at dksX3_untilAt_0 1 rfl rfl)
theorem dX3_untilAt_3 : decode cX3_untilAt 3 = .ok (.iconst 1, 1) := dk_4 (dk_at dksX3_untilAt_0 3 rfl rfl)
theorem dX3_untilAt_4 : decode cX3_untilAt 4 = .ok (.istore 6, 2) := dk_54 6 (dk_at dksX3_untilAt_0 4 rfl rfl)
theorem dX3_untilAt_6 : decode cX3_untilAt 6 = .ok (.iload_n 3, 1) := dk_29 (dk_at dksX3_untilAt_0 6 rfl rfl)
theorem dX3_untilAt_7 : decode cX3_untilAt 7 = .ok (.istore 7, 2) := dk_54 7 (dk_at dksX3_untilAt_0 7 rfl rfl)
theorem dX3_untilAt_9 : decode cX3_untilAt 9 = .ok (.iload 7, 2) := dk_21 7 (dk_at dksX3_untilAt_0 9 rfl rfl)
theorem dX3_untilAt_11 : decode cX3_untilAt 11 = .ok (.aload_n 0, 1) := dk_42 (dk_at dksX3_untilAt_0 11 rfl rfl)
theorem dX3_untilAt_12 : decode cX3_untilAt 12 = .ok (.getfield 117, 3) := dk_180 0 117 (dk_at dksX3_untilAt_0 12 rfl rfl)
theorem dX3_untilAt_15 : decode cX3_untilAt 15 = .ok (.if_icmp .ge 59, 3) := dk_162 0 59 (dk_at dksX3_untilAt_0 15 rfl rfl)
theorem dX3_untilAt_18 : decode cX3_untilAt 18 = .ok (.aload_n 0, 1) := dk_42 (dk_at dksX3_untilAt_0 18 rfl rfl)
theorem dX3_untilAt_19 : decode cX3_untilAt 19 = .ok (.iload_n 3, 1) := dk_29 (dk_at dksX3_untilAt_0 19 rfl rfl)
theorem dX3_untilAt_20 : decode cX3_untilAt 20 = .ok (.iload 7, 2) := dk_21 7 (dk_at dksX3_untilAt_0 20 rfl rfl)
theorem dX3_untilAt_22 : decode cX3_untilAt 22 = .ok (.iload 4, 2) := dk_21 4 (dk_at dksX3_untilAt_0 22 rfl rfl)
theorem dX3_untilAt_24 : decode cX3_untilAt 24 = .ok (.invokevirtual 104, 3) := dk_182 0 104 (dk_at dksX3_untilAt_1 0 rfl rfl)
theorem dX3_untilAt_27 : decode cX3_untilAt 27 = .ok (.ifCond .eq 23, 3) := dk_153 0 23 (dk_at dksX3_untilAt_1 3 rfl rfl)
theorem dX3_untilAt_30 : decode cX3_untilAt 30 = .ok (.iload 5, 2) := dk_21 5 (dk_at dksX3_untilAt_1 6 rfl rfl)
theorem dX3_untilAt_32 : decode cX3_untilAt 32 = .ok (.aload_n 0, 1) := dk_42 (dk_at dksX3_untilAt_1 8 rfl rfl)
theorem dX3_untilAt_33 : decode cX3_untilAt 33 = .ok (.iload_n 2, 1) := dk_28 (dk_at dksX3_untilAt_1 9 rfl rfl)
theorem dX3_untilAt_34 : decode cX3_untilAt 34 = .ok (.iload 7, 2) := dk_21 7 (dk_at dksX3_untilAt_1 10 rfl rfl)
theorem dX3_untilAt_36 : decode cX3_untilAt 36 = .ok (.invokevirtual 107, 3) := dk_182 0 107 (dk_at dksX3_untilAt_1 12 rfl rfl)
theorem dX3_untilAt_39 : decode cX3_untilAt 39 = .ok (.iload 6, 2) := dk_21 6 (dk_at dksX3_untilAt_1 15 rfl rfl)
theorem dX3_untilAt_41 : decode cX3_untilAt 41 = .ok (.invokestatic 111, 3) := dk_184 0 111 (dk_at dksX3_untilAt_1 17 rfl rfl)
theorem dX3_untilAt_44 : decode cX3_untilAt 44 = .ok (.invokestatic 114, 3) := dk_184 0 114 (dk_at dksX3_untilAt_1 20 rfl rfl)
theorem dX3_untilAt_47 : decode cX3_untilAt 47 = .ok (.goto 5, 3) := dk_167 0 5 (dk_at dksX3_untilAt_2 0 rfl rfl)
theorem dX3_untilAt_50 : decode cX3_untilAt 50 = .ok (.iload 5, 2) := dk_21 5 (dk_at dksX3_untilAt_2 3 rfl rfl)
theorem dX3_untilAt_52 : decode cX3_untilAt 52 = .ok (.istore 5, 2) := dk_54 5 (dk_at dksX3_untilAt_2 5 rfl rfl)
theorem dX3_untilAt_54 : decode cX3_untilAt 54 = .ok (.iload 6, 2) := dk_21 6 (dk_at dksX3_untilAt_2 7 rfl rfl)
theorem dX3_untilAt_56 : decode cX3_untilAt 56 = .ok (.aload_n 0, 1) := dk_42 (dk_at dksX3_untilAt_2 9 rfl rfl)
theorem dX3_untilAt_57 : decode cX3_untilAt 57 = .ok (.iload_n 1, 1) := dk_27 (dk_at dksX3_untilAt_2 10 rfl rfl)
theorem dX3_untilAt_58 : decode cX3_untilAt 58 = .ok (.iload 7, 2) := dk_21 7 (dk_at dksX3_untilAt_2 11 rfl rfl)
theorem dX3_untilAt_60 : decode cX3_untilAt 60 = .ok (.invokevirtual 107, 3) := dk_182 0 107 (dk_at dksX3_untilAt_2 13 rfl rfl)
theorem dX3_untilAt_63 : decode cX3_untilAt 63 = .ok (.invokestatic 111, 3) := dk_184 0 111 (dk_at dksX3_untilAt_2 16 rfl rfl)
theorem dX3_untilAt_66 : decode cX3_untilAt 66 = .ok (.istore 6, 2) := dk_54 6 (dk_at dksX3_untilAt_2 19 rfl rfl)
theorem dX3_untilAt_68 : decode cX3_untilAt 68 = .ok (.iinc 7 1, 3) := dk_132 7 1 (dk_at dksX3_untilAt_2 21 rfl rfl)
theorem dX3_untilAt_71 : decode cX3_untilAt 71 = .ok (.goto (-62), 3) := dk_167 255 194 (dk_at dksX3_untilAt_3 0 rfl rfl)
theorem dX3_untilAt_74 : decode cX3_untilAt 74 = .ok (.aload_n 0, 1) := dk_42 (dk_at dksX3_untilAt_3 3 rfl rfl)
theorem dX3_untilAt_75 : decode cX3_untilAt 75 = .ok (.iload_n 3, 1) := dk_29 (dk_at dksX3_untilAt_3 4 rfl rfl)
theorem dX3_untilAt_76 : decode cX3_untilAt 76 = .ok (.iload 4, 2) := dk_21 4 (dk_at dksX3_untilAt_3 5 rfl rfl)
theorem dX3_untilAt_78 : decode cX3_untilAt 78 = .ok (.invokevirtual 120, 3) := dk_182 0 120 (dk_at dksX3_untilAt_3 7 rfl rfl)
theorem dX3_untilAt_81 : decode cX3_untilAt 81 = .ok (.ifCond .eq 17, 3) := dk_153 0 17 (dk_at dksX3_untilAt_3 10 rfl rfl)
theorem dX3_untilAt_84 : decode cX3_untilAt 84 = .ok (.iload 5, 2) := dk_21 5 (dk_at dksX3_untilAt_3 13 rfl rfl)
theorem dX3_untilAt_86 : decode cX3_untilAt 86 = .ok (.iconst 2, 1) := dk_5 (dk_at dksX3_untilAt_3 15 rfl rfl)
theorem dX3_untilAt_87 : decode cX3_untilAt 87 = .ok (.iload 6, 2) := dk_21 6 (dk_at dksX3_untilAt_3 16 rfl rfl)
theorem dX3_untilAt_89 : decode cX3_untilAt 89 = .ok (.invokestatic 111, 3) := dk_184 0 111 (dk_at dksX3_untilAt_3 18 rfl rfl)
theorem dX3_untilAt_92 : decode cX3_untilAt 92 = .ok (.invokestatic 114, 3) := dk_184 0 114 (dk_at dksX3_untilAt_3 21 rfl rfl)
theorem dX3_untilAt_95 : decode cX3_untilAt 95 = .ok (.goto 5, 3) := dk_167 0 5 (dk_at dksX3_untilAt_4 0 rfl rfl)
theorem dX3_untilAt_98 : decode cX3_untilAt 98 = .ok (.iload 5, 2) := dk_21 5 (dk_at dksX3_untilAt_4 3 rfl rfl)
theorem dX3_untilAt_100 : decode cX3_untilAt 100 = .ok (.ireturn, 1) := dk_172 (dk_at dksX3_untilAt_4 5 rfl rfl)
abbrev cX3_isOpenFor : ByteArray := prog_13_method_16_code
def yX3_isOpenFor : MethodName := ⟨RX3, "isOpenFor", "(II)Z"⟩
def dkwX3_isOpenFor_1 : List UInt8 := [27, 46, 46, 100, 28, 163, 0, 7, 4, 167, 0, 4, 3, 172]
abbrev dktX3_isOpenFor_1 : List UInt8 := dkwX3_isOpenFor_1 ++ []
def dkwX3_isOpenFor_0 : List UInt8 := [42, 180, 0, 97, 154, 0, 32, 28, 2, 159, 0, 23, 42, 180, 0, 101, 42, 180, 0, 20, 42, 180, 0, 72]
abbrev dktX3_isOpenFor_0 : List UInt8 := dkwX3_isOpenFor_0 ++ dktX3_isOpenFor_1
theorem dksX3_isOpenFor_0 : cX3_isOpenFor.data.toList.drop 0 = dktX3_isOpenFor_0 := by decide +kernel
theorem dksX3_isOpenFor_1 : cX3_isOpenFor.data.toList.drop 24 = dktX3_isOpenFor_1 := dk_seg dksX3_isOpenFor_0 24 rfl rfl
theorem dX3_isOpenFor_0 : decode cX3_isOpenFor 0 = .ok (.aload_n 0, 1) := dk_42 (dk_at dksX3_isOpenFor_0 0 rfl rfl)
theorem dX3_isOpenFor_1 : decode cX3_isOpenFor 1 = .ok (.getfield 97, 3) := dk_180 0 97 (dk_at dksX3_isOpenFor_0 1 rfl rfl)
theorem dX3_isOpenFor_4 : decode cX3_isOpenFor 4 = .ok (.ifCond .ne 32, 3) := dk_154 0 32 (dk_at dksX3_isOpenFor_0 4 rfl rfl)
theorem dX3_isOpenFor_7 : decode cX3_isOpenFor 7 = .ok (.iload_n 2, 1) := dk_28 (dk_at dksX3_isOpenFor_0 7 rfl rfl)
theorem dX3_isOpenFor_8 : decode cX3_isOpenFor 8 = .ok (.iconst (-1), 1) := dk_2 (dk_at dksX3_isOpenFor_0 8 rfl rfl)
theorem dX3_isOpenFor_9 : decode cX3_isOpenFor 9 = .ok (.if_icmp .eq 23, 3) := dk_159 0 23 (dk_at dksX3_isOpenFor_0 9 rfl rfl)
theorem dX3_isOpenFor_12 : decode cX3_isOpenFor 12 = .ok (.aload_n 0, 1) := dk_42 (dk_at dksX3_isOpenFor_0 12 rfl rfl)
theorem dX3_isOpenFor_13 : decode cX3_isOpenFor 13 = .ok (.getfield 101, 3) := dk_180 0 101 (dk_at dksX3_isOpenFor_0 13 rfl rfl)
theorem dX3_isOpenFor_16 : decode cX3_isOpenFor 16 = .ok (.aload_n 0, 1) := dk_42 (dk_at dksX3_isOpenFor_0 16 rfl rfl)
theorem dX3_isOpenFor_17 : decode cX3_isOpenFor 17 = .ok (.getfield 20, 3) := dk_180 0 20 (dk_at dksX3_isOpenFor_0 17 rfl rfl)
theorem dX3_isOpenFor_20 : decode cX3_isOpenFor 20 = .ok (.aload_n 0, 1) := dk_42 (dk_at dksX3_isOpenFor_0 20 rfl rfl)
theorem dX3_isOpenFor_21 : decode cX3_isOpenFor 21 = .ok (.getfield 72, 3) := dk_180 0 72 (dk_at dksX3_isOpenFor_0 21 rfl rfl)
theorem dX3_isOpenFor_24 : decode cX3_isOpenFor 24 = .ok (.iload_n 1, 1) := dk_27 (dk_at dksX3_isOpenFor_1 0 rfl rfl)
theorem dX3_isOpenFor_25 : decode cX3_isOpenFor 25 = .ok (.iaload, 1) := dk_46 (dk_at dksX3_isOpenFor_1 1 rfl rfl)
theorem dX3_isOpenFor_26 : decode cX3_isOpenFor 26 = .ok (.iaload, 1) := dk_46 (dk_at dksX3_isOpenFor_1 2 rfl rfl)
theorem dX3_isOpenFor_27 : decode cX3_isOpenFor 27 = .ok (.isub, 1) := dk_100 (dk_at dksX3_isOpenFor_1 3 rfl rfl)
theorem dX3_isOpenFor_28 : decode cX3_isOpenFor 28 = .ok (.iload_n 2, 1) := dk_28 (dk_at dksX3_isOpenFor_1 4 rfl rfl)
theorem dX3_isOpenFor_29 : decode cX3_isOpenFor 29 = .ok (.if_icmp .gt 7, 3) := dk_163 0 7 (dk_at dksX3_isOpenFor_1 5 rfl rfl)
theorem dX3_isOpenFor_32 : decode cX3_isOpenFor 32 = .ok (.iconst 1, 1) := dk_4 (dk_at dksX3_isOpenFor_1 8 rfl rfl)
theorem dX3_isOpenFor_33 : decode cX3_isOpenFor 33 = .ok (.goto 4, 3) := dk_167 0 4 (dk_at dksX3_isOpenFor_1 9 rfl rfl)
theorem dX3_isOpenFor_36 : decode cX3_isOpenFor 36 = .ok (.iconst 0, 1) := dk_3 (dk_at dksX3_isOpenFor_1 12 rfl rfl)
theorem dX3_isOpenFor_37 : decode cX3_isOpenFor 37 = .ok (.ireturn, 1) := dk_172 (dk_at dksX3_isOpenFor_1 13 rfl rfl)
abbrev cX3_soonAt : ByteArray := prog_13_method_20_code
def yX3_soonAt : MethodName := ⟨RX3, "soonAt", "(III)I"⟩
def dkwX3_soonAt_2 : List UInt8 := [182, 0, 107, 184, 0, 114, 54, 4, 132, 5, 1, 167, 255, 219, 21, 4, 172]
abbrev dktX3_soonAt_2 : List UInt8 := dkwX3_soonAt_2 ++ []
def dkwX3_soonAt_1 : List UInt8 := [180, 0, 117, 162, 0, 34, 42, 28, 21, 5, 29, 182, 0, 104, 153, 0, 23, 21, 4, 42, 27, 21, 5]
abbrev dktX3_soonAt_1 : List UInt8 := dkwX3_soonAt_1 ++ dktX3_soonAt_2
def dkwX3_soonAt_0 : List UInt8 := [42, 28, 29, 182, 0, 120, 153, 0, 7, 5, 167, 0, 4, 3, 54, 4, 28, 54, 5, 21, 5, 42]
abbrev dktX3_soonAt_0 : List UInt8 := dkwX3_soonAt_0 ++ dktX3_soonAt_1
theorem dksX3_soonAt_0 : cX3_soonAt.data.toList.drop 0 = dktX3_soonAt_0 := by decide +kernel
theorem dksX3_soonAt_1 : cX3_soonAt.data.toList.drop 22 = dktX3_soonAt_1 := dk_seg dksX3_soonAt_0 22 rfl rfl
theorem dksX3_soonAt_2 : cX3_soonAt.data.toList.drop 45 = dktX3_soonAt_2 := dk_seg dksX3_soonAt_1 23 rfl rfl
theorem dX3_soonAt_0 : decode cX3_soonAt 0 = .ok (.aload_n 0, 1) := dk_42 (dk_at dksX3_soonAt_0 0 rfl rfl)
theorem dX3_soonAt_1 : decode cX3_soonAt 1 = .ok (.iload_n 2, 1) := dk_28 (dk_at dksX3_soonAt_0 1 rfl rfl)
theorem dX3_soonAt_2 : decode cX3_soonAt 2 = .ok (.iload_n 3, 1) := dk_29 (dk_at dksX3_soonAt_0 2 rfl rfl)
theorem dX3_soonAt_3 : decode cX3_soonAt 3 = .ok (.invokevirtual 120, 3) := dk_182 0 120 (dk_at dksX3_soonAt_0 3 rfl rfl)
theorem dX3_soonAt_6 : decode cX3_soonAt 6 = .ok (.ifCond .eq 7, 3) := dk_153 0 7 (dk_at dksX3_soonAt_0 6 rfl rfl)
theorem dX3_soonAt_9 : decode cX3_soonAt 9 = .ok (.iconst 2, 1) := dk_5 (dk_at dksX3_soonAt_0 9 rfl rfl)
theorem dX3_soonAt_10 : decode cX3_soonAt 10 = .ok (.goto 4, 3) := dk_167 0 4 (dk_at dksX3_soonAt_0 10 rfl rfl)
theorem dX3_soonAt_13 : decode cX3_soonAt 13 = .ok (.iconst 0, 1) := dk_3 (dk_at dksX3_soonAt_0 13 rfl rfl)
theorem dX3_soonAt_14 : decode cX3_soonAt 14 = .ok (.istore 4, 2) := dk_54 4 (dk_at dksX3_soonAt_0 14 rfl rfl)
theorem dX3_soonAt_16 : decode cX3_soonAt 16 = .ok (.iload_n 2, 1) := dk_28 (dk_at dksX3_soonAt_0 16 rfl rfl)
theorem dX3_soonAt_17 : decode cX3_soonAt 17 = .ok (.istore 5, 2) := dk_54 5 (dk_at dksX3_soonAt_0 17 rfl rfl)
theorem dX3_soonAt_19 : decode cX3_soonAt 19 = .ok (.iload 5, 2) := dk_21 5 (dk_at dksX3_soonAt_0 19 rfl rfl)
theorem dX3_soonAt_21 : decode cX3_soonAt 21 = .ok (.aload_n 0, 1) := dk_42 (dk_at dksX3_soonAt_0 21 rfl rfl)
theorem dX3_soonAt_22 : decode cX3_soonAt 22 = .ok (.getfield 117, 3) := dk_180 0 117 (dk_at dksX3_soonAt_1 0 rfl rfl)
theorem dX3_soonAt_25 : decode cX3_soonAt 25 = .ok (.if_icmp .ge 34, 3) := dk_162 0 34 (dk_at dksX3_soonAt_1 3 rfl rfl)
theorem dX3_soonAt_28 : decode cX3_soonAt 28 = .ok (.aload_n 0, 1) := dk_42 (dk_at dksX3_soonAt_1 6 rfl rfl)
theorem dX3_soonAt_29 : decode cX3_soonAt 29 = .ok (.iload_n 2, 1) := dk_28 (dk_at dksX3_soonAt_1 7 rfl rfl)
theorem dX3_soonAt_30 : decode cX3_soonAt 30 = .ok (.iload 5, 2) := dk_21 5 (dk_at dksX3_soonAt_1 8 rfl rfl)
theorem dX3_soonAt_32 : decode cX3_soonAt 32 = .ok (.iload_n 3, 1) := dk_29 (dk_at dksX3_soonAt_1 10 rfl rfl)
theorem dX3_soonAt_33 : decode cX3_soonAt 33 = .ok (.invokevirtual 104, 3) := dk_182 0 104 (dk_at dksX3_soonAt_1 11 rfl rfl)
theorem dX3_soonAt_36 : decode cX3_soonAt 36 = .ok (.ifCond .eq 23, 3) := dk_153 0 23 (dk_at dksX3_soonAt_1 14 rfl rfl)
theorem dX3_soonAt_39 : decode cX3_soonAt 39 = .ok (.iload 4, 2) := dk_21 4 (dk_at dksX3_soonAt_1 17 rfl rfl)
theorem dX3_soonAt_41 : decode cX3_soonAt 41 = .ok (.aload_n 0, 1) := dk_42 (dk_at dksX3_soonAt_1 19 rfl rfl)
theorem dX3_soonAt_42 : decode cX3_soonAt 42 = .ok (.iload_n 1, 1) := dk_27 (dk_at dksX3_soonAt_1 20 rfl rfl)
theorem dX3_soonAt_43 : decode cX3_soonAt 43 = .ok (.iload 5, 2) := dk_21 5 (dk_at dksX3_soonAt_1 21 rfl rfl)
theorem dX3_soonAt_45 : decode cX3_soonAt 45 = .ok (.invokevirtual 107, 3) := dk_182 0 107 (dk_at dksX3_soonAt_2 0 rfl rfl)
theorem dX3_soonAt_48 : decode cX3_soonAt 48 = .ok (.invokestatic 114, 3) := dk_184 0 114 (dk_at dksX3_soonAt_2 3 rfl rfl)
theorem dX3_soonAt_51 : decode cX3_soonAt 51 = .ok (.istore 4, 2) := dk_54 4 (dk_at dksX3_soonAt_2 6 rfl rfl)
theorem dX3_soonAt_53 : decode cX3_soonAt 53 = .ok (.iinc 5 1, 3) := dk_132 5 1 (dk_at dksX3_soonAt_2 8 rfl rfl)
theorem dX3_soonAt_56 : decode cX3_soonAt 56 = .ok (.goto (-37), 3) := dk_167 255 219 (dk_at dksX3_soonAt_2 11 rfl rfl)
theorem dX3_soonAt_59 : decode cX3_soonAt 59 = .ok (.iload 4, 2) := dk_21 4 (dk_at dksX3_soonAt_2 14 rfl rfl)
theorem dX3_soonAt_61 : decode cX3_soonAt 61 = .ok (.ireturn, 1) := dk_172 (dk_at dksX3_soonAt_2 16 rfl rfl)
abbrev cX3_manyAt : ByteArray := prog_13_method_21_code
def yX3_manyAt : MethodName := ⟨RX3, "manyAt", "(IIII)I"⟩
def dkwX3_manyAt_4 : List UInt8 := [172]
abbrev dktX3_manyAt_4 : List UInt8 := dkwX3_manyAt_4 ++ []
def dkwX3_manyAt_3 : List UInt8 := [167, 255, 195, 21, 5, 29, 161, 0, 7, 4, 167, 0, 14, 21, 6, 29, 162, 0, 7, 3, 167, 0, 4, 5]
abbrev dktX3_manyAt_3 : List UInt8 := dkwX3_manyAt_3 ++ dktX3_manyAt_4
def dkwX3_manyAt_2 : List UInt8 := [21, 6, 42, 27, 21, 7, 182, 0, 107, 154, 0, 7, 3, 167, 0, 4, 4, 96, 54, 6, 132, 7, 255]
abbrev dktX3_manyAt_2 : List UInt8 := dkwX3_manyAt_2 ++ dktX3_manyAt_3
def dkwX3_manyAt_1 : List UInt8 := [153, 0, 50, 21, 5, 42, 27, 21, 7, 182, 0, 107, 4, 160, 0, 7, 4, 167, 0, 4, 3, 96, 54, 5]
abbrev dktX3_manyAt_1 : List UInt8 := dkwX3_manyAt_1 ++ dktX3_manyAt_2
def dkwX3_manyAt_0 : List UInt8 := [3, 54, 5, 3, 54, 6, 28, 54, 7, 21, 7, 155, 0, 62, 42, 21, 7, 28, 21, 4, 182, 0, 104]
abbrev dktX3_manyAt_0 : List UInt8 := dkwX3_manyAt_0 ++ dktX3_manyAt_1
theorem dksX3_manyAt_0 : cX3_manyAt.data.toList.drop 0 = dktX3_manyAt_0 := by decide +kernel
theorem dksX3_manyAt_1 : cX3_manyAt.data.toList.drop 23 = dktX3_manyAt_1 := dk_seg dksX3_manyAt_0 23 rfl rfl
theorem dksX3_manyAt_2 : cX3_manyAt.data.toList.drop 47 = dktX3_manyAt_2 := dk_seg dksX3_manyAt_1 24 rfl rfl
theorem dksX3_manyAt_3 : cX3_manyAt.data.toList.drop 70 = dktX3_manyAt_3 := dk_seg dksX3_manyAt_2 23 rfl rfl
theorem dksX3_manyAt_4 : cX3_manyAt.data.toList.drop 94 = dktX3_manyAt_4 := dk_seg dksX3_manyAt_3 24 rfl rfl
theorem dX3_manyAt_0 : decode cX3_manyAt 0 = .ok (.iconst 0, 1) := dk_3 (dk_at dksX3_manyAt_0 0 rfl rfl)
theorem dX3_manyAt_1 : decode cX3_manyAt 1 = .ok (.istore 5, 2) := dk_54 5 (dk_at dksX3_manyAt_0 1 rfl rfl)
theorem dX3_manyAt_3 : decode cX3_manyAt 3 = .ok (.iconst 0, 1) := dk_3 (dk_at dksX3_manyAt_0 3 rfl rfl)
theorem dX3_manyAt_4 : decode cX3_manyAt 4 = .ok (.istore 6, 2) := dk_54 6 (dk_at dksX3_manyAt_0 4 rfl rfl)
theorem dX3_manyAt_6 : decode cX3_manyAt 6 = .ok (.iload_n 2, 1) := dk_28 (dk_at dksX3_manyAt_0 6 rfl rfl)
theorem dX3_manyAt_7 : decode cX3_manyAt 7 = .ok (.istore 7, 2) := dk_54 7 (dk_at dksX3_manyAt_0 7 rfl rfl)
theorem dX3_manyAt_9 : decode cX3_manyAt 9 = .ok (.iload 7, 2) := dk_21 7 (dk_at dksX3_manyAt_0 9 rfl rfl)
theorem dX3_manyAt_11 : decode cX3_manyAt 11 = .ok (.ifCond .lt 62, 3) := dk_155 0 62 (dk_at dksX3_manyAt_0 11 rfl rfl)
theorem dX3_manyAt_14 : decode cX3_manyAt 14 = .ok (.aload_n 0, 1) := dk_42 (dk_at dksX3_manyAt_0 14 rfl rfl)
theorem dX3_manyAt_15 : decode cX3_manyAt 15 = .ok (.iload 7, 2) := dk_21 7 (dk_at dksX3_manyAt_0 15 rfl rfl)
theorem dX3_manyAt_17 : decode cX3_manyAt 17 = .ok (.iload_n 2, 1) := dk_28 (dk_at dksX3_manyAt_0 17 rfl rfl)
theorem dX3_manyAt_18 : decode cX3_manyAt 18 = .ok (.iload 4, 2) := dk_21 4 (dk_at dksX3_manyAt_0 18 rfl rfl)
theorem dX3_manyAt_20 : decode cX3_manyAt 20 = .ok (.invokevirtual 104, 3) := dk_182 0 104 (dk_at dksX3_manyAt_0 20 rfl rfl)
theorem dX3_manyAt_23 : decode cX3_manyAt 23 = .ok (.ifCond .eq 50, 3) := dk_153 0 50 (dk_at dksX3_manyAt_1 0 rfl rfl)
theorem dX3_manyAt_26 : decode cX3_manyAt 26 = .ok (.iload 5, 2) := dk_21 5 (dk_at dksX3_manyAt_1 3 rfl rfl)
theorem dX3_manyAt_28 : decode cX3_manyAt 28 = .ok (.aload_n 0, 1) := dk_42 (dk_at dksX3_manyAt_1 5 rfl rfl)
theorem dX3_manyAt_29 : decode cX3_manyAt 29 = .ok (.iload_n 1, 1) := dk_27 (dk_at dksX3_manyAt_1 6 rfl rfl)
theorem dX3_manyAt_30 : decode cX3_manyAt 30 = .ok (.iload 7, 2) := dk_21 7 (dk_at dksX3_manyAt_1 7 rfl rfl)
theorem dX3_manyAt_32 : decode cX3_manyAt 32 = .ok (.invokevirtual 107, 3) := dk_182 0 107 (dk_at dksX3_manyAt_1 9 rfl rfl)
theorem dX3_manyAt_35 : decode cX3_manyAt 35 = .ok (.iconst 1, 1) := dk_4 (dk_at dksX3_manyAt_1 12 rfl rfl)
theorem dX3_manyAt_36 : decode cX3_manyAt 36 = .ok (.if_icmp .ne 7, 3) := dk_160 0 7 (dk_at dksX3_manyAt_1 13 rfl rfl)
theorem dX3_manyAt_39 : decode cX3_manyAt 39 = .ok (.iconst 1, 1) := dk_4 (dk_at dksX3_manyAt_1 16 rfl rfl)
theorem dX3_manyAt_40 : decode cX3_manyAt 40 = .ok (.goto 4, 3) := dk_167 0 4 (dk_at dksX3_manyAt_1 17 rfl rfl)
theorem dX3_manyAt_43 : decode cX3_manyAt 43 = .ok (.iconst 0, 1) := dk_3 (dk_at dksX3_manyAt_1 20 rfl rfl)
theorem dX3_manyAt_44 : decode cX3_manyAt 44 = .ok (.iadd, 1) := dk_96 (dk_at dksX3_manyAt_1 21 rfl rfl)
theorem dX3_manyAt_45 : decode cX3_manyAt 45 = .ok (.istore 5, 2) := dk_54 5 (dk_at dksX3_manyAt_1 22 rfl rfl)
theorem dX3_manyAt_47 : decode cX3_manyAt 47 = .ok (.iload 6, 2) := dk_21 6 (dk_at dksX3_manyAt_2 0 rfl rfl)
theorem dX3_manyAt_49 : decode cX3_manyAt 49 = .ok (.aload_n 0, 1) := dk_42 (dk_at dksX3_manyAt_2 2 rfl rfl)
theorem dX3_manyAt_50 : decode cX3_manyAt 50 = .ok (.iload_n 1, 1) := dk_27 (dk_at dksX3_manyAt_2 3 rfl rfl)
theorem dX3_manyAt_51 : decode cX3_manyAt 51 = .ok (.iload 7, 2) := dk_21 7 (dk_at dksX3_manyAt_2 4 rfl rfl)
theorem dX3_manyAt_53 : decode cX3_manyAt 53 = .ok (.invokevirtual 107, 3) := dk_182 0 107 (dk_at dksX3_manyAt_2 6 rfl rfl)
theorem dX3_manyAt_56 : decode cX3_manyAt 56 = .ok (.ifCond .ne 7, 3) := dk_154 0 7 (dk_at dksX3_manyAt_2 9 rfl rfl)
theorem dX3_manyAt_59 : decode cX3_manyAt 59 = .ok (.iconst 0, 1) := dk_3 (dk_at dksX3_manyAt_2 12 rfl rfl)
theorem dX3_manyAt_60 : decode cX3_manyAt 60 = .ok (.goto 4, 3) := dk_167 0 4 (dk_at dksX3_manyAt_2 13 rfl rfl)
theorem dX3_manyAt_63 : decode cX3_manyAt 63 = .ok (.iconst 1, 1) := dk_4 (dk_at dksX3_manyAt_2 16 rfl rfl)
theorem dX3_manyAt_64 : decode cX3_manyAt 64 = .ok (.iadd, 1) := dk_96 (dk_at dksX3_manyAt_2 17 rfl rfl)
theorem dX3_manyAt_65 : decode cX3_manyAt 65 = .ok (.istore 6, 2) := dk_54 6 (dk_at dksX3_manyAt_2 18 rfl rfl)
theorem dX3_manyAt_67 : decode cX3_manyAt 67 = .ok (.iinc 7 (-1), 3) := dk_132 7 255 (dk_at dksX3_manyAt_2 20 rfl rfl)
theorem dX3_manyAt_70 : decode cX3_manyAt 70 = .ok (.goto (-61), 3) := dk_167 255 195 (dk_at dksX3_manyAt_3 0 rfl rfl)
theorem dX3_manyAt_73 : decode cX3_manyAt 73 = .ok (.iload 5, 2) := dk_21 5 (dk_at dksX3_manyAt_3 3 rfl rfl)
theorem dX3_manyAt_75 : decode cX3_manyAt 75 = .ok (.iload_n 3, 1) := dk_29 (dk_at dksX3_manyAt_3 5 rfl rfl)
theorem dX3_manyAt_76 : decode cX3_manyAt 76 = .ok (.if_icmp .lt 7, 3) := dk_161 0 7 (dk_at dksX3_manyAt_3 6 rfl rfl)
theorem dX3_manyAt_79 : decode cX3_manyAt 79 = .ok (.iconst 1, 1) := dk_4 (dk_at dksX3_manyAt_3 9 rfl rfl)
theorem dX3_manyAt_80 : decode cX3_manyAt 80 = .ok (.goto 14, 3) := dk_167 0 14 (dk_at dksX3_manyAt_3 10 rfl rfl)
theorem dX3_manyAt_83 : decode cX3_manyAt 83 = .ok (.iload 6, 2) := dk_21 6 (dk_at dksX3_manyAt_3 13 rfl rfl)
theorem dX3_manyAt_85 : decode cX3_manyAt 85 = .ok (.iload_n 3, 1) := dk_29 (dk_at dksX3_manyAt_3 15 rfl rfl)
theorem dX3_manyAt_86 : decode cX3_manyAt 86 = .ok (.if_icmp .ge 7, 3) := dk_162 0 7 (dk_at dksX3_manyAt_3 16 rfl rfl)
theorem dX3_manyAt_89 : decode cX3_manyAt 89 = .ok (.iconst 0, 1) := dk_3 (dk_at dksX3_manyAt_3 19 rfl rfl)
theorem dX3_manyAt_90 : decode cX3_manyAt 90 = .ok (.goto 4, 3) := dk_167 0 4 (dk_at dksX3_manyAt_3 20 rfl rfl)
theorem dX3_manyAt_93 : decode cX3_manyAt 93 = .ok (.iconst 2, 1) := dk_5 (dk_at dksX3_manyAt_3 23 rfl rfl)
theorem dX3_manyAt_94 : decode cX3_manyAt 94 = .ok (.ireturn, 1) := dk_172 (dk_at dksX3_manyAt_4 0 rfl rfl)
abbrev cX3_offer : ByteArray := prog_13_method_38_code
def yX3_offer : MethodName := ⟨RX3, "offer", "(IIIII)I"⟩
def dkwX3_offer_3 : List UInt8 := [180, 0, 91, 4, 100, 172]
abbrev dktX3_offer_3 : List UInt8 := dkwX3_offer_3 ++ []
def dkwX3_offer_2 : List UInt8 := [180, 0, 206, 4, 96, 181, 0, 206, 2, 172, 42, 42, 180, 0, 91, 4, 100, 182, 0, 196, 54, 7, 42]
abbrev dktX3_offer_2 : List UInt8 := dkwX3_offer_2 ++ dktX3_offer_3
def dkwX3_offer_1 : List UInt8 := [28, 29, 21, 4, 21, 5, 182, 0, 192, 42, 182, 0, 199, 153, 0, 21, 42, 21, 6, 182, 0, 203, 42, 89]
abbrev dktX3_offer_1 : List UInt8 := dkwX3_offer_1 ++ dktX3_offer_2
def dkwX3_offer_0 : List UInt8 := [42, 27, 28, 29, 21, 4, 21, 5, 182, 0, 188, 154, 0, 5, 3, 172, 42, 180, 0, 101, 54, 6, 42, 27]
abbrev dktX3_offer_0 : List UInt8 := dkwX3_offer_0 ++ dktX3_offer_1
theorem dksX3_offer_0 : cX3_offer.data.toList.drop 0 = dktX3_offer_0 := by decide +kernel
theorem dksX3_offer_1 : cX3_offer.data.toList.drop 24 = dktX3_offer_1 := dk_seg dksX3_offer_0 24 rfl rfl
theorem dksX3_offer_2 : cX3_offer.data.toList.drop 48 = dktX3_offer_2 := dk_seg dksX3_offer_1 24 rfl rfl
theorem dksX3_offer_3 : cX3_offer.data.toList.drop 71 = dktX3_offer_3 := dk_seg dksX3_offer_2 23 rfl rfl
theorem dX3_offer_0 : decode cX3_offer 0 = .ok (.aload_n 0, 1) := dk_42 (dk_at dksX3_offer_0 0 rfl rfl)
theorem dX3_offer_1 : decode cX3_offer 1 = .ok (.iload_n 1, 1) := dk_27 (dk_at dksX3_offer_0 1 rfl rfl)
theorem dX3_offer_2 : decode cX3_offer 2 = .ok (.iload_n 2, 1) := dk_28 (dk_at dksX3_offer_0 2 rfl rfl)
theorem dX3_offer_3 : decode cX3_offer 3 = .ok (.iload_n 3, 1) := dk_29 (dk_at dksX3_offer_0 3 rfl rfl)
theorem dX3_offer_4 : decode cX3_offer 4 = .ok (.iload 4, 2) := dk_21 4 (dk_at dksX3_offer_0 4 rfl rfl)
theorem dX3_offer_6 : decode cX3_offer 6 = .ok (.iload 5, 2) := dk_21 5 (dk_at dksX3_offer_0 6 rfl rfl)
theorem dX3_offer_8 : decode cX3_offer 8 = .ok (.invokevirtual 188, 3) := dk_182 0 188 (dk_at dksX3_offer_0 8 rfl rfl)
theorem dX3_offer_11 : decode cX3_offer 11 = .ok (.ifCond .ne 5, 3) := dk_154 0 5 (dk_at dksX3_offer_0 11 rfl rfl)
theorem dX3_offer_14 : decode cX3_offer 14 = .ok (.iconst 0, 1) := dk_3 (dk_at dksX3_offer_0 14 rfl rfl)
theorem dX3_offer_15 : decode cX3_offer 15 = .ok (.ireturn, 1) := dk_172 (dk_at dksX3_offer_0 15 rfl rfl)
theorem dX3_offer_16 : decode cX3_offer 16 = .ok (.aload_n 0, 1) := dk_42 (dk_at dksX3_offer_0 16 rfl rfl)
theorem dX3_offer_17 : decode cX3_offer 17 = .ok (.getfield 101, 3) := dk_180 0 101 (dk_at dksX3_offer_0 17 rfl rfl)
theorem dX3_offer_20 : decode cX3_offer 20 = .ok (.istore 6, 2) := dk_54 6 (dk_at dksX3_offer_0 20 rfl rfl)
theorem dX3_offer_22 : decode cX3_offer 22 = .ok (.aload_n 0, 1) := dk_42 (dk_at dksX3_offer_0 22 rfl rfl)
theorem dX3_offer_23 : decode cX3_offer 23 = .ok (.iload_n 1, 1) := dk_27 (dk_at dksX3_offer_0 23 rfl rfl)
theorem dX3_offer_24 : decode cX3_offer 24 = .ok (.iload_n 2, 1) := dk_28 (dk_at dksX3_offer_1 0 rfl rfl)
theorem dX3_offer_25 : decode cX3_offer 25 = .ok (.iload_n 3, 1) := dk_29 (dk_at dksX3_offer_1 1 rfl rfl)
theorem dX3_offer_26 : decode cX3_offer 26 = .ok (.iload 4, 2) := dk_21 4 (dk_at dksX3_offer_1 2 rfl rfl)
theorem dX3_offer_28 : decode cX3_offer 28 = .ok (.iload 5, 2) := dk_21 5 (dk_at dksX3_offer_1 4 rfl rfl)
theorem dX3_offer_30 : decode cX3_offer 30 = .ok (.invokevirtual 192, 3) := dk_182 0 192 (dk_at dksX3_offer_1 6 rfl rfl)
theorem dX3_offer_33 : decode cX3_offer 33 = .ok (.aload_n 0, 1) := dk_42 (dk_at dksX3_offer_1 9 rfl rfl)
theorem dX3_offer_34 : decode cX3_offer 34 = .ok (.invokevirtual 199, 3) := dk_182 0 199 (dk_at dksX3_offer_1 10 rfl rfl)
theorem dX3_offer_37 : decode cX3_offer 37 = .ok (.ifCond .eq 21, 3) := dk_153 0 21 (dk_at dksX3_offer_1 13 rfl rfl)
theorem dX3_offer_40 : decode cX3_offer 40 = .ok (.aload_n 0, 1) := dk_42 (dk_at dksX3_offer_1 16 rfl rfl)
theorem dX3_offer_41 : decode cX3_offer 41 = .ok (.iload 6, 2) := dk_21 6 (dk_at dksX3_offer_1 17 rfl rfl)
theorem dX3_offer_43 : decode cX3_offer 43 = .ok (.invokevirtual 203, 3) := dk_182 0 203 (dk_at dksX3_offer_1 19 rfl rfl)
theorem dX3_offer_46 : decode cX3_offer 46 = .ok (.aload_n 0, 1) := dk_42 (dk_at dksX3_offer_1 22 rfl rfl)
theorem dX3_offer_47 : decode cX3_offer 47 = .ok (.dup, 1) := dk_89 (dk_at dksX3_offer_1 23 rfl rfl)
theorem dX3_offer_48 : decode cX3_offer 48 = .ok (.getfield 206, 3) := dk_180 0 206 (dk_at dksX3_offer_2 0 rfl rfl)
theorem dX3_offer_51 : decode cX3_offer 51 = .ok (.iconst 1, 1) := dk_4 (dk_at dksX3_offer_2 3 rfl rfl)
theorem dX3_offer_52 : decode cX3_offer 52 = .ok (.iadd, 1) := dk_96 (dk_at dksX3_offer_2 4 rfl rfl)
theorem dX3_offer_53 : decode cX3_offer 53 = .ok (.putfield 206, 3) := dk_181 0 206 (dk_at dksX3_offer_2 5 rfl rfl)
theorem dX3_offer_56 : decode cX3_offer 56 = .ok (.iconst (-1), 1) := dk_2 (dk_at dksX3_offer_2 8 rfl rfl)
theorem dX3_offer_57 : decode cX3_offer 57 = .ok (.ireturn, 1) := dk_172 (dk_at dksX3_offer_2 9 rfl rfl)
theorem dX3_offer_58 : decode cX3_offer 58 = .ok (.aload_n 0, 1) := dk_42 (dk_at dksX3_offer_2 10 rfl rfl)
theorem dX3_offer_59 : decode cX3_offer 59 = .ok (.aload_n 0, 1) := dk_42 (dk_at dksX3_offer_2 11 rfl rfl)
theorem dX3_offer_60 : decode cX3_offer 60 = .ok (.getfield 91, 3) := dk_180 0 91 (dk_at dksX3_offer_2 12 rfl rfl)
theorem dX3_offer_63 : decode cX3_offer 63 = .ok (.iconst 1, 1) := dk_4 (dk_at dksX3_offer_2 15 rfl rfl)
theorem dX3_offer_64 : decode cX3_offer 64 = .ok (.isub, 1) := dk_100 (dk_at dksX3_offer_2 16 rfl rfl)
theorem dX3_offer_65 : decode cX3_offer 65 = .ok (.invokevirtual 196, 3) := dk_182 0 196 (dk_at dksX3_offer_2 17 rfl rfl)
theorem dX3_offer_68 : decode cX3_offer 68 = .ok (.istore 7, 2) := dk_54 7 (dk_at dksX3_offer_2 20 rfl rfl)
theorem dX3_offer_70 : decode cX3_offer 70 = .ok (.aload_n 0, 1) := dk_42 (dk_at dksX3_offer_2 22 rfl rfl)
theorem dX3_offer_71 : decode cX3_offer 71 = .ok (.getfield 91, 3) := dk_180 0 91 (dk_at dksX3_offer_3 0 rfl rfl)
theorem dX3_offer_74 : decode cX3_offer 74 = .ok (.iconst 1, 1) := dk_4 (dk_at dksX3_offer_3 3 rfl rfl)
theorem dX3_offer_75 : decode cX3_offer 75 = .ok (.isub, 1) := dk_100 (dk_at dksX3_offer_3 4 rfl rfl)
theorem dX3_offer_76 : decode cX3_offer 76 = .ok (.ireturn, 1) := dk_172 (dk_at dksX3_offer_3 5 rfl rfl)
abbrev cX3_isGuarded : ByteArray := prog_13_method_37_code
def yX3_isGuarded : MethodName := ⟨RX3, "isGuarded", "()Z"⟩
def dkwX3_isGuarded_4 : List UInt8 := [132, 3, 1, 167, 255, 202, 132, 2, 1, 167, 255, 160, 27, 172]
abbrev dktX3_isGuarded_4 : List UInt8 := dkwX3_isGuarded_4 ++ []
def dkwX3_isGuarded_3 : List UInt8 := [159, 0, 17, 42, 180, 0, 66, 16, 80, 28, 104, 29, 96, 46, 153, 0, 7, 4, 167, 0, 4, 3, 60]
abbrev dktX3_isGuarded_3 : List UInt8 := dkwX3_isGuarded_3 ++ dktX3_isGuarded_4
def dkwX3_isGuarded_2 : List UInt8 := [162, 0, 52, 27, 154, 0, 36, 42, 180, 0, 81, 29, 46, 154, 0, 31, 29, 42, 180, 0, 91, 4, 100]
abbrev dktX3_isGuarded_2 : List UInt8 := dkwX3_isGuarded_2 ++ dktX3_isGuarded_3
def dkwX3_isGuarded_1 : List UInt8 := [182, 0, 164, 42, 42, 182, 0, 167, 181, 0, 157, 42, 28, 182, 0, 171, 3, 62, 29, 42, 180, 0, 91]
abbrev dktX3_isGuarded_1 : List UInt8 := dkwX3_isGuarded_1 ++ dktX3_isGuarded_2
def dkwX3_isGuarded_0 : List UInt8 := [3, 60, 3, 61, 28, 42, 180, 0, 94, 162, 0, 94, 42, 180, 0, 57, 28, 51, 153, 0, 79, 42]
abbrev dktX3_isGuarded_0 : List UInt8 := dkwX3_isGuarded_0 ++ dktX3_isGuarded_1
theorem dksX3_isGuarded_0 : cX3_isGuarded.data.toList.drop 0 = dktX3_isGuarded_0 := by decide +kernel
theorem dksX3_isGuarded_1 : cX3_isGuarded.data.toList.drop 22 = dktX3_isGuarded_1 := dk_seg dksX3_isGuarded_0 22 rfl rfl
theorem dksX3_isGuarded_2 : cX3_isGuarded.data.toList.drop 45 = dktX3_isGuarded_2 := dk_seg dksX3_isGuarded_1 23 rfl rfl
theorem dksX3_isGuarded_3 : cX3_isGuarded.data.toList.drop 68 = dktX3_isGuarded_3 := dk_seg dksX3_isGuarded_2 23 rfl rfl
theorem dksX3_isGuarded_4 : cX3_isGuarded.data.toList.drop 91 = dktX3_isGuarded_4 := dk_seg dksX3_isGuarded_3 23 rfl rfl
theorem dX3_isGuarded_0 : decode cX3_isGuarded 0 = .ok (.iconst 0, 1) := dk_3 (dk_at dksX3_isGuarded_0 0 rfl rfl)
theorem dX3_isGuarded_1 : decode cX3_isGuarded 1 = .ok (.istore_n 1, 1) := dk_60 (dk_at dksX3_isGuarded_0 1 rfl rfl)
theorem dX3_isGuarded_2 : decode cX3_isGuarded 2 = .ok (.iconst 0, 1) := dk_3 (dk_at dksX3_isGuarded_0 2 rfl rfl)
theorem dX3_isGuarded_3 : decode cX3_isGuarded 3 = .ok (.istore_n 2, 1) := dk_61 (dk_at dksX3_isGuarded_0 3 rfl rfl)
theorem dX3_isGuarded_4 : decode cX3_isGuarded 4 = .ok (.iload_n 2, 1) := dk_28 (dk_at dksX3_isGuarded_0 4 rfl rfl)
theorem dX3_isGuarded_5 : decode cX3_isGuarded 5 = .ok (.aload_n 0, 1) := dk_42 (dk_at dksX3_isGuarded_0 5 rfl rfl)
theorem dX3_isGuarded_6 : decode cX3_isGuarded 6 = .ok (.getfield 94, 3) := dk_180 0 94 (dk_at dksX3_isGuarded_0 6 rfl rfl)
theorem dX3_isGuarded_9 : decode cX3_isGuarded 9 = .ok (.if_icmp .ge 94, 3) := dk_162 0 94 (dk_at dksX3_isGuarded_0 9 rfl rfl)
theorem dX3_isGuarded_12 : decode cX3_isGuarded 12 = .ok (.aload_n 0, 1) := dk_42 (dk_at dksX3_isGuarded_0 12 rfl rfl)
theorem dX3_isGuarded_13 : decode cX3_isGuarded 13 = .ok (.getfield 57, 3) := dk_180 0 57 (dk_at dksX3_isGuarded_0 13 rfl rfl)
theorem dX3_isGuarded_16 : decode cX3_isGuarded 16 = .ok (.iload_n 2, 1) := dk_28 (dk_at dksX3_isGuarded_0 16 rfl rfl)
theorem dX3_isGuarded_17 : decode cX3_isGuarded 17 = .ok (.baload, 1) := dk_51 (dk_at dksX3_isGuarded_0 17 rfl rfl)
theorem dX3_isGuarded_18 : decode cX3_isGuarded 18 = .ok (.ifCond .eq 79, 3) := dk_153 0 79 (dk_at dksX3_isGuarded_0 18 rfl rfl)
theorem dX3_isGuarded_21 : decode cX3_isGuarded 21 = .ok (.aload_n 0, 1) := dk_42 (dk_at dksX3_isGuarded_0 21 rfl rfl)
theorem dX3_isGuarded_22 : decode cX3_isGuarded 22 = .ok (.invokevirtual 164, 3) := dk_182 0 164 (dk_at dksX3_isGuarded_1 0 rfl rfl)
theorem dX3_isGuarded_25 : decode cX3_isGuarded 25 = .ok (.aload_n 0, 1) := dk_42 (dk_at dksX3_isGuarded_1 3 rfl rfl)
theorem dX3_isGuarded_26 : decode cX3_isGuarded 26 = .ok (.aload_n 0, 1) := dk_42 (dk_at dksX3_isGuarded_1 4 rfl rfl)
theorem dX3_isGuarded_27 : decode cX3_isGuarded 27 = .ok (.invokevirtual 167, 3) := dk_182 0 167 (dk_at dksX3_isGuarded_1 5 rfl rfl)
theorem dX3_isGuarded_30 : decode cX3_isGuarded 30 = .ok (.putfield 157, 3) := dk_181 0 157 (dk_at dksX3_isGuarded_1 8 rfl rfl)
theorem dX3_isGuarded_33 : decode cX3_isGuarded 33 = .ok (.aload_n 0, 1) := dk_42 (dk_at dksX3_isGuarded_1 11 rfl rfl)
theorem dX3_isGuarded_34 : decode cX3_isGuarded 34 = .ok (.iload_n 2, 1) := dk_28 (dk_at dksX3_isGuarded_1 12 rfl rfl)
theorem dX3_isGuarded_35 : decode cX3_isGuarded 35 = .ok (.invokevirtual 171, 3) := dk_182 0 171 (dk_at dksX3_isGuarded_1 13 rfl rfl)
theorem dX3_isGuarded_38 : decode cX3_isGuarded 38 = .ok (.iconst 0, 1) := dk_3 (dk_at dksX3_isGuarded_1 16 rfl rfl)
theorem dX3_isGuarded_39 : decode cX3_isGuarded 39 = .ok (.istore_n 3, 1) := dk_62 (dk_at dksX3_isGuarded_1 17 rfl rfl)
theorem dX3_isGuarded_40 : decode cX3_isGuarded 40 = .ok (.iload_n 3, 1) := dk_29 (dk_at dksX3_isGuarded_1 18 rfl rfl)
theorem dX3_isGuarded_41 : decode cX3_isGuarded 41 = .ok (.aload_n 0, 1) := dk_42 (dk_at dksX3_isGuarded_1 19 rfl rfl)
theorem dX3_isGuarded_42 : decode cX3_isGuarded 42 = .ok (.getfield 91, 3) := dk_180 0 91 (dk_at dksX3_isGuarded_1 20 rfl rfl)
theorem dX3_isGuarded_45 : decode cX3_isGuarded 45 = .ok (.if_icmp .ge 52, 3) := dk_162 0 52 (dk_at dksX3_isGuarded_2 0 rfl rfl)
theorem dX3_isGuarded_48 : decode cX3_isGuarded 48 = .ok (.iload_n 1, 1) := dk_27 (dk_at dksX3_isGuarded_2 3 rfl rfl)
theorem dX3_isGuarded_49 : decode cX3_isGuarded 49 = .ok (.ifCond .ne 36, 3) := dk_154 0 36 (dk_at dksX3_isGuarded_2 4 rfl rfl)
theorem dX3_isGuarded_52 : decode cX3_isGuarded 52 = .ok (.aload_n 0, 1) := dk_42 (dk_at dksX3_isGuarded_2 7 rfl rfl)
theorem dX3_isGuarded_53 : decode cX3_isGuarded 53 = .ok (.getfield 81, 3) := dk_180 0 81 (dk_at dksX3_isGuarded_2 8 rfl rfl)
theorem dX3_isGuarded_56 : decode cX3_isGuarded 56 = .ok (.iload_n 3, 1) := dk_29 (dk_at dksX3_isGuarded_2 11 rfl rfl)
theorem dX3_isGuarded_57 : decode cX3_isGuarded 57 = .ok (.iaload, 1) := dk_46 (dk_at dksX3_isGuarded_2 12 rfl rfl)
theorem dX3_isGuarded_58 : decode cX3_isGuarded 58 = .ok (.ifCond .ne 31, 3) := dk_154 0 31 (dk_at dksX3_isGuarded_2 13 rfl rfl)
theorem dX3_isGuarded_61 : decode cX3_isGuarded 61 = .ok (.iload_n 3, 1) := dk_29 (dk_at dksX3_isGuarded_2 16 rfl rfl)
theorem dX3_isGuarded_62 : decode cX3_isGuarded 62 = .ok (.aload_n 0, 1) := dk_42 (dk_at dksX3_isGuarded_2 17 rfl rfl)
theorem dX3_isGuarded_63 : decode cX3_isGuarded 63 = .ok (.getfield 91, 3) := dk_180 0 91 (dk_at dksX3_isGuarded_2 18 rfl rfl)
theorem dX3_isGuarded_66 : decode cX3_isGuarded 66 = .ok (.iconst 1, 1) := dk_4 (dk_at dksX3_isGuarded_2 21 rfl rfl)
theorem dX3_isGuarded_67 : decode cX3_isGuarded 67 = .ok (.isub, 1) := dk_100 (dk_at dksX3_isGuarded_2 22 rfl rfl)
theorem dX3_isGuarded_68 : decode cX3_isGuarded 68 = .ok (.if_icmp .eq 17, 3) := dk_159 0 17 (dk_at dksX3_isGuarded_3 0 rfl rfl)
theorem dX3_isGuarded_71 : decode cX3_isGuarded 71 = .ok (.aload_n 0, 1) := dk_42 (dk_at dksX3_isGuarded_3 3 rfl rfl)
theorem dX3_isGuarded_72 : decode cX3_isGuarded 72 = .ok (.getfield 66, 3) := dk_180 0 66 (dk_at dksX3_isGuarded_3 4 rfl rfl)
theorem dX3_isGuarded_75 : decode cX3_isGuarded 75 = .ok (.bipush 80, 2) := dk_16 80 (dk_at dksX3_isGuarded_3 7 rfl rfl)
theorem dX3_isGuarded_77 : decode cX3_isGuarded 77 = .ok (.iload_n 2, 1) := dk_28 (dk_at dksX3_isGuarded_3 9 rfl rfl)
theorem dX3_isGuarded_78 : decode cX3_isGuarded 78 = .ok (.imul, 1) := dk_104 (dk_at dksX3_isGuarded_3 10 rfl rfl)
theorem dX3_isGuarded_79 : decode cX3_isGuarded 79 = .ok (.iload_n 3, 1) := dk_29 (dk_at dksX3_isGuarded_3 11 rfl rfl)
theorem dX3_isGuarded_80 : decode cX3_isGuarded 80 = .ok (.iadd, 1) := dk_96 (dk_at dksX3_isGuarded_3 12 rfl rfl)
theorem dX3_isGuarded_81 : decode cX3_isGuarded 81 = .ok (.iaload, 1) := dk_46 (dk_at dksX3_isGuarded_3 13 rfl rfl)
theorem dX3_isGuarded_82 : decode cX3_isGuarded 82 = .ok (.ifCond .eq 7, 3) := dk_153 0 7 (dk_at dksX3_isGuarded_3 14 rfl rfl)
theorem dX3_isGuarded_85 : decode cX3_isGuarded 85 = .ok (.iconst 1, 1) := dk_4 (dk_at dksX3_isGuarded_3 17 rfl rfl)
theorem dX3_isGuarded_86 : decode cX3_isGuarded 86 = .ok (.goto 4, 3) := dk_167 0 4 (dk_at dksX3_isGuarded_3 18 rfl rfl)
theorem dX3_isGuarded_89 : decode cX3_isGuarded 89 = .ok (.iconst 0, 1) := dk_3 (dk_at dksX3_isGuarded_3 21 rfl rfl)
theorem dX3_isGuarded_90 : decode cX3_isGuarded 90 = .ok (.istore_n 1, 1) := dk_60 (dk_at dksX3_isGuarded_3 22 rfl rfl)
theorem dX3_isGuarded_91 : decode cX3_isGuarded 91 = .ok (.iinc 3 1, 3) := dk_132 3 1 (dk_at dksX3_isGuarded_4 0 rfl rfl)
theorem dX3_isGuarded_94 : decode cX3_isGuarded 94 = .ok (.goto (-54), 3) := dk_167 255 202 (dk_at dksX3_isGuarded_4 3 rfl rfl)
theorem dX3_isGuarded_97 : decode cX3_isGuarded 97 = .ok (.iinc 2 1, 3) := dk_132 2 1 (dk_at dksX3_isGuarded_4 6 rfl rfl)
theorem dX3_isGuarded_100 : decode cX3_isGuarded 100 = .ok (.goto (-96), 3) := dk_167 255 160 (dk_at dksX3_isGuarded_4 9 rfl rfl)
theorem dX3_isGuarded_103 : decode cX3_isGuarded 103 = .ok (.iload_n 1, 1) := dk_27 (dk_at dksX3_isGuarded_4 12 rfl rfl)
theorem dX3_isGuarded_104 : decode cX3_isGuarded 104 = .ok (.ireturn, 1) := dk_172 (dk_at dksX3_isGuarded_4 13 rfl rfl)
abbrev cX3_goesAway : ByteArray := prog_13_method_35_code
def yX3_goesAway : MethodName := ⟨RX3, "goesAway", "(I)V"⟩
def dkwX3_goesAway_2 : List UInt8 := [42, 180, 0, 36, 29, 4, 96, 46, 79, 132, 3, 1, 167, 255, 231, 42, 27, 181, 0, 101, 177]
abbrev dktX3_goesAway_2 : List UInt8 := dkwX3_goesAway_2 ++ []
def dkwX3_goesAway_1 : List UInt8 := [159, 0, 9, 132, 2, 1, 167, 255, 240, 28, 62, 29, 42, 180, 0, 91, 162, 0, 23, 42, 180, 0, 36, 29]
abbrev dktX3_goesAway_1 : List UInt8 := dkwX3_goesAway_1 ++ dktX3_goesAway_2
def dkwX3_goesAway_0 : List UInt8 := [42, 89, 180, 0, 91, 4, 100, 181, 0, 91, 3, 61, 42, 180, 0, 36, 28, 46, 42, 180, 0, 91]
abbrev dktX3_goesAway_0 : List UInt8 := dkwX3_goesAway_0 ++ dktX3_goesAway_1
theorem dksX3_goesAway_0 : cX3_goesAway.data.toList.drop 0 = dktX3_goesAway_0 := by decide +kernel
theorem dksX3_goesAway_1 : cX3_goesAway.data.toList.drop 22 = dktX3_goesAway_1 := dk_seg dksX3_goesAway_0 22 rfl rfl
theorem dksX3_goesAway_2 : cX3_goesAway.data.toList.drop 46 = dktX3_goesAway_2 := dk_seg dksX3_goesAway_1 24 rfl rfl
theorem dX3_goesAway_0 : decode cX3_goesAway 0 = .ok (.aload_n 0, 1) := dk_42 (dk_at dksX3_goesAway_0 0 rfl rfl)
theorem dX3_goesAway_1 : decode cX3_goesAway 1 = .ok (.dup, 1) := dk_89 (dk_at dksX3_goesAway_0 1 rfl rfl)
theorem dX3_goesAway_2 : decode cX3_goesAway 2 = .ok (.getfield 91, 3) := dk_180 0 91 (dk_at dksX3_goesAway_0 2 rfl rfl)
theorem dX3_goesAway_5 : decode cX3_goesAway 5 = .ok (.iconst 1, 1) := dk_4 (dk_at dksX3_goesAway_0 5 rfl rfl)
theorem dX3_goesAway_6 : decode cX3_goesAway 6 = .ok (.isub, 1) := dk_100 (dk_at dksX3_goesAway_0 6 rfl rfl)
theorem dX3_goesAway_7 : decode cX3_goesAway 7 = .ok (.putfield 91, 3) := dk_181 0 91 (dk_at dksX3_goesAway_0 7 rfl rfl)
theorem dX3_goesAway_10 : decode cX3_goesAway 10 = .ok (.iconst 0, 1) := dk_3 (dk_at dksX3_goesAway_0 10 rfl rfl)
theorem dX3_goesAway_11 : decode cX3_goesAway 11 = .ok (.istore_n 2, 1) := dk_61 (dk_at dksX3_goesAway_0 11 rfl rfl)
theorem dX3_goesAway_12 : decode cX3_goesAway 12 = .ok (.aload_n 0, 1) := dk_42 (dk_at dksX3_goesAway_0 12 rfl rfl)
theorem dX3_goesAway_13 : decode cX3_goesAway 13 = .ok (.getfield 36, 3) := dk_180 0 36 (dk_at dksX3_goesAway_0 13 rfl rfl)
theorem dX3_goesAway_16 : decode cX3_goesAway 16 = .ok (.iload_n 2, 1) := dk_28 (dk_at dksX3_goesAway_0 16 rfl rfl)
theorem dX3_goesAway_17 : decode cX3_goesAway 17 = .ok (.iaload, 1) := dk_46 (dk_at dksX3_goesAway_0 17 rfl rfl)
theorem dX3_goesAway_18 : decode cX3_goesAway 18 = .ok (.aload_n 0, 1) := dk_42 (dk_at dksX3_goesAway_0 18 rfl rfl)
theorem dX3_goesAway_19 : decode cX3_goesAway 19 = .ok (.getfield 91, 3) := dk_180 0 91 (dk_at dksX3_goesAway_0 19 rfl rfl)
theorem dX3_goesAway_22 : decode cX3_goesAway 22 = .ok (.if_icmp .eq 9, 3) := dk_159 0 9 (dk_at dksX3_goesAway_1 0 rfl rfl)
theorem dX3_goesAway_25 : decode cX3_goesAway 25 = .ok (.iinc 2 1, 3) := dk_132 2 1 (dk_at dksX3_goesAway_1 3 rfl rfl)
theorem dX3_goesAway_28 : decode cX3_goesAway 28 = .ok (.goto (-16), 3) := dk_167 255 240 (dk_at dksX3_goesAway_1 6 rfl rfl)
theorem dX3_goesAway_31 : decode cX3_goesAway 31 = .ok (.iload_n 2, 1) := dk_28 (dk_at dksX3_goesAway_1 9 rfl rfl)
theorem dX3_goesAway_32 : decode cX3_goesAway 32 = .ok (.istore_n 3, 1) := dk_62 (dk_at dksX3_goesAway_1 10 rfl rfl)
theorem dX3_goesAway_33 : decode cX3_goesAway 33 = .ok (.iload_n 3, 1) := dk_29 (dk_at dksX3_goesAway_1 11 rfl rfl)
theorem dX3_goesAway_34 : decode cX3_goesAway 34 = .ok (.aload_n 0, 1) := dk_42 (dk_at dksX3_goesAway_1 12 rfl rfl)
theorem dX3_goesAway_35 : decode cX3_goesAway 35 = .ok (.getfield 91, 3) := dk_180 0 91 (dk_at dksX3_goesAway_1 13 rfl rfl)
theorem dX3_goesAway_38 : decode cX3_goesAway 38 = .ok (.if_icmp .ge 23, 3) := dk_162 0 23 (dk_at dksX3_goesAway_1 16 rfl rfl)
theorem dX3_goesAway_41 : decode cX3_goesAway 41 = .ok (.aload_n 0, 1) := dk_42 (dk_at dksX3_goesAway_1 19 rfl rfl)
theorem dX3_goesAway_42 : decode cX3_goesAway 42 = .ok (.getfield 36, 3) := dk_180 0 36 (dk_at dksX3_goesAway_1 20 rfl rfl)
theorem dX3_goesAway_45 : decode cX3_goesAway 45 = .ok (.iload_n 3, 1) := dk_29 (dk_at dksX3_goesAway_1 23 rfl rfl)
theorem dX3_goesAway_46 : decode cX3_goesAway 46 = .ok (.aload_n 0, 1) := dk_42 (dk_at dksX3_goesAway_2 0 rfl rfl)
theorem dX3_goesAway_47 : decode cX3_goesAway 47 = .ok (.getfield 36, 3) := dk_180 0 36 (dk_at dksX3_goesAway_2 1 rfl rfl)
theorem dX3_goesAway_50 : decode cX3_goesAway 50 = .ok (.iload_n 3, 1) := dk_29 (dk_at dksX3_goesAway_2 4 rfl rfl)
theorem dX3_goesAway_51 : decode cX3_goesAway 51 = .ok (.iconst 1, 1) := dk_4 (dk_at dksX3_goesAway_2 5 rfl rfl)
theorem dX3_goesAway_52 : decode cX3_goesAway 52 = .ok (.iadd, 1) := dk_96 (dk_at dksX3_goesAway_2 6 rfl rfl)
theorem dX3_goesAway_53 : decode cX3_goesAway 53 = .ok (.iaload, 1) := dk_46 (dk_at dksX3_goesAway_2 7 rfl rfl)
theorem dX3_goesAway_54 : decode cX3_goesAway 54 = .ok (.iastore, 1) := dk_79 (dk_at dksX3_goesAway_2 8 rfl rfl)
theorem dX3_goesAway_55 : decode cX3_goesAway 55 = .ok (.iinc 3 1, 3) := dk_132 3 1 (dk_at dksX3_goesAway_2 9 rfl rfl)
theorem dX3_goesAway_58 : decode cX3_goesAway 58 = .ok (.goto (-25), 3) := dk_167 255 231 (dk_at dksX3_goesAway_2 12 rfl rfl)
theorem dX3_goesAway_61 : decode cX3_goesAway 61 = .ok (.aload_n 0, 1) := dk_42 (dk_at dksX3_goesAway_2 15 rfl rfl)
theorem dX3_goesAway_62 : decode cX3_goesAway 62 = .ok (.iload_n 1, 1) := dk_27 (dk_at dksX3_goesAway_2 16 rfl rfl)
theorem dX3_goesAway_63 : decode cX3_goesAway 63 = .ok (.putfield 101, 3) := dk_181 0 101 (dk_at dksX3_goesAway_2 17 rfl rfl)
theorem dX3_goesAway_66 : decode cX3_goesAway 66 = .ok (.return_, 1) := dk_177 (dk_at dksX3_goesAway_2 20 rfl rfl)
abbrev cX3_close : ByteArray := prog_13_method_39_code
def yX3_close : MethodName := ⟨RX3, "close", "()I"⟩
def dkwX3_close_1 : List UInt8 := [4, 181, 0, 97, 42, 42, 180, 0, 91, 182, 0, 196, 172]
abbrev dktX3_close_1 : List UInt8 := dkwX3_close_1 ++ []
def dkwX3_close_0 : List UInt8 := [42, 42, 180, 0, 97, 154, 0, 7, 4, 167, 0, 4, 3, 4, 4, 182, 0, 181, 154, 0, 5, 3, 172, 42]
abbrev dktX3_close_0 : List UInt8 := dkwX3_close_0 ++ dktX3_close_1
theorem dksX3_close_0 : cX3_close.data.toList.drop 0 = dktX3_close_0 := by decide +kernel
theorem dksX3_close_1 : cX3_close.data.toList.drop 24 = dktX3_close_1 := dk_seg dksX3_close_0 24 rfl rfl
theorem dX3_close_0 : decode cX3_close 0 = .ok (.aload_n 0, 1) := dk_42 (dk_at dksX3_close_0 0 rfl rfl)
theorem dX3_close_1 : decode cX3_close 1 = .ok (.aload_n 0, 1) := dk_42 (dk_at dksX3_close_0 1 rfl rfl)
theorem dX3_close_2 : decode cX3_close 2 = .ok (.getfield 97, 3) := dk_180 0 97 (dk_at dksX3_close_0 2 rfl rfl)
theorem dX3_close_5 : decode cX3_close 5 = .ok (.ifCond .ne 7, 3) := dk_154 0 7 (dk_at dksX3_close_0 5 rfl rfl)
theorem dX3_close_8 : decode cX3_close 8 = .ok (.iconst 1, 1) := dk_4 (dk_at dksX3_close_0 8 rfl rfl)
theorem dX3_close_9 : decode cX3_close 9 = .ok (.goto 4, 3) := dk_167 0 4 (dk_at dksX3_close_0 9 rfl rfl)
theorem dX3_close_12 : decode cX3_close 12 = .ok (.iconst 0, 1) := dk_3 (dk_at dksX3_close_0 12 rfl rfl)
theorem dX3_close_13 : decode cX3_close 13 = .ok (.iconst 1, 1) := dk_4 (dk_at dksX3_close_0 13 rfl rfl)
theorem dX3_close_14 : decode cX3_close 14 = .ok (.iconst 1, 1) := dk_4 (dk_at dksX3_close_0 14 rfl rfl)
theorem dX3_close_15 : decode cX3_close 15 = .ok (.invokevirtual 181, 3) := dk_182 0 181 (dk_at dksX3_close_0 15 rfl rfl)
theorem dX3_close_18 : decode cX3_close 18 = .ok (.ifCond .ne 5, 3) := dk_154 0 5 (dk_at dksX3_close_0 18 rfl rfl)
theorem dX3_close_21 : decode cX3_close 21 = .ok (.iconst 0, 1) := dk_3 (dk_at dksX3_close_0 21 rfl rfl)
theorem dX3_close_22 : decode cX3_close 22 = .ok (.ireturn, 1) := dk_172 (dk_at dksX3_close_0 22 rfl rfl)
theorem dX3_close_23 : decode cX3_close 23 = .ok (.aload_n 0, 1) := dk_42 (dk_at dksX3_close_0 23 rfl rfl)
theorem dX3_close_24 : decode cX3_close 24 = .ok (.iconst 1, 1) := dk_4 (dk_at dksX3_close_1 0 rfl rfl)
theorem dX3_close_25 : decode cX3_close 25 = .ok (.putfield 97, 3) := dk_181 0 97 (dk_at dksX3_close_1 1 rfl rfl)
theorem dX3_close_28 : decode cX3_close 28 = .ok (.aload_n 0, 1) := dk_42 (dk_at dksX3_close_1 4 rfl rfl)
theorem dX3_close_29 : decode cX3_close 29 = .ok (.aload_n 0, 1) := dk_42 (dk_at dksX3_close_1 5 rfl rfl)
theorem dX3_close_30 : decode cX3_close 30 = .ok (.getfield 91, 3) := dk_180 0 91 (dk_at dksX3_close_1 6 rfl rfl)
theorem dX3_close_33 : decode cX3_close 33 = .ok (.invokevirtual 196, 3) := dk_182 0 196 (dk_at dksX3_close_1 9 rfl rfl)
theorem dX3_close_36 : decode cX3_close 36 = .ok (.ireturn, 1) := dk_172 (dk_at dksX3_close_1 12 rfl rfl)
abbrev cX3_kindIs : ByteArray := prog_13_method_46_code
def yX3_kindIs : MethodName := ⟨RX3, "kindIs", "(I)I"⟩
def dkwX3_kindIs_1 : List UInt8 := [153, 0, 13, 42, 3, 27, 3, 182, 0, 228, 167, 0, 4, 3, 172]
abbrev dktX3_kindIs_1 : List UInt8 := dkwX3_kindIs_1 ++ []
def dkwX3_kindIs_0 : List UInt8 := [42, 27, 184, 0, 185, 42, 180, 0, 216, 16, 8, 162, 0, 7, 4, 167, 0, 4, 3, 4, 182, 0, 181]
abbrev dktX3_kindIs_0 : List UInt8 := dkwX3_kindIs_0 ++ dktX3_kindIs_1
theorem dksX3_kindIs_0 : cX3_kindIs.data.toList.drop 0 = dktX3_kindIs_0 := by decide +kernel
theorem dksX3_kindIs_1 : cX3_kindIs.data.toList.drop 23 = dktX3_kindIs_1 := dk_seg dksX3_kindIs_0 23 rfl rfl
theorem dX3_kindIs_0 : decode cX3_kindIs 0 = .ok (.aload_n 0, 1) := dk_42 (dk_at dksX3_kindIs_0 0 rfl rfl)
theorem dX3_kindIs_1 : decode cX3_kindIs 1 = .ok (.iload_n 1, 1) := dk_27 (dk_at dksX3_kindIs_0 1 rfl rfl)
theorem dX3_kindIs_2 : decode cX3_kindIs 2 = .ok (.invokestatic 185, 3) := dk_184 0 185 (dk_at dksX3_kindIs_0 2 rfl rfl)
theorem dX3_kindIs_5 : decode cX3_kindIs 5 = .ok (.aload_n 0, 1) := dk_42 (dk_at dksX3_kindIs_0 5 rfl rfl)
theorem dX3_kindIs_6 : decode cX3_kindIs 6 = .ok (.getfield 216, 3) := dk_180 0 216 (dk_at dksX3_kindIs_0 6 rfl rfl)
theorem dX3_kindIs_9 : decode cX3_kindIs 9 = .ok (.bipush 8, 2) := dk_16 8 (dk_at dksX3_kindIs_0 9 rfl rfl)
theorem dX3_kindIs_11 : decode cX3_kindIs 11 = .ok (.if_icmp .ge 7, 3) := dk_162 0 7 (dk_at dksX3_kindIs_0 11 rfl rfl)
theorem dX3_kindIs_14 : decode cX3_kindIs 14 = .ok (.iconst 1, 1) := dk_4 (dk_at dksX3_kindIs_0 14 rfl rfl)
theorem dX3_kindIs_15 : decode cX3_kindIs 15 = .ok (.goto 4, 3) := dk_167 0 4 (dk_at dksX3_kindIs_0 15 rfl rfl)
theorem dX3_kindIs_18 : decode cX3_kindIs 18 = .ok (.iconst 0, 1) := dk_3 (dk_at dksX3_kindIs_0 18 rfl rfl)
theorem dX3_kindIs_19 : decode cX3_kindIs 19 = .ok (.iconst 1, 1) := dk_4 (dk_at dksX3_kindIs_0 19 rfl rfl)
theorem dX3_kindIs_20 : decode cX3_kindIs 20 = .ok (.invokevirtual 181, 3) := dk_182 0 181 (dk_at dksX3_kindIs_0 20 rfl rfl)
theorem dX3_kindIs_23 : decode cX3_kindIs 23 = .ok (.ifCond .eq 13, 3) := dk_153 0 13 (dk_at dksX3_kindIs_1 0 rfl rfl)
theorem dX3_kindIs_26 : decode cX3_kindIs 26 = .ok (.aload_n 0, 1) := dk_42 (dk_at dksX3_kindIs_1 3 rfl rfl)
theorem dX3_kindIs_27 : decode cX3_kindIs 27 = .ok (.iconst 0, 1) := dk_3 (dk_at dksX3_kindIs_1 4 rfl rfl)
theorem dX3_kindIs_28 : decode cX3_kindIs 28 = .ok (.iload_n 1, 1) := dk_27 (dk_at dksX3_kindIs_1 5 rfl rfl)
theorem dX3_kindIs_29 : decode cX3_kindIs 29 = .ok (.iconst 0, 1) := dk_3 (dk_at dksX3_kindIs_1 6 rfl rfl)
theorem dX3_kindIs_30 : decode cX3_kindIs 30 = .ok (.invokevirtual 228, 3) := dk_182 0 228 (dk_at dksX3_kindIs_1 7 rfl rfl)
theorem dX3_kindIs_33 : decode cX3_kindIs 33 = .ok (.goto 4, 3) := dk_167 0 4 (dk_at dksX3_kindIs_1 10 rfl rfl)
theorem dX3_kindIs_36 : decode cX3_kindIs 36 = .ok (.iconst 0, 1) := dk_3 (dk_at dksX3_kindIs_1 13 rfl rfl)
theorem dX3_kindIs_37 : decode cX3_kindIs 37 = .ok (.ireturn, 1) := dk_172 (dk_at dksX3_kindIs_1 14 rfl rfl)
abbrev cX3_lays : ByteArray := prog_13_method_41_code
def yX3_lays : MethodName := ⟨RX3, "lays", "(III)I"⟩
def dkwX3_lays_1 : List UInt8 := [96, 181, 0, 216, 42, 180, 0, 216, 172]
abbrev dktX3_lays_1 : List UInt8 := dkwX3_lays_1 ++ []
def dkwX3_lays_0 : List UInt8 := [42, 27, 28, 29, 4, 182, 0, 212, 42, 180, 0, 39, 42, 180, 0, 216, 4, 79, 42, 89, 180, 0, 216, 4]
abbrev dktX3_lays_0 : List UInt8 := dkwX3_lays_0 ++ dktX3_lays_1
theorem dksX3_lays_0 : cX3_lays.data.toList.drop 0 = dktX3_lays_0 := by decide +kernel
theorem dksX3_lays_1 : cX3_lays.data.toList.drop 24 = dktX3_lays_1 := dk_seg dksX3_lays_0 24 rfl rfl
theorem dX3_lays_0 : decode cX3_lays 0 = .ok (.aload_n 0, 1) := dk_42 (dk_at dksX3_lays_0 0 rfl rfl)
theorem dX3_lays_1 : decode cX3_lays 1 = .ok (.iload_n 1, 1) := dk_27 (dk_at dksX3_lays_0 1 rfl rfl)
theorem dX3_lays_2 : decode cX3_lays 2 = .ok (.iload_n 2, 1) := dk_28 (dk_at dksX3_lays_0 2 rfl rfl)
theorem dX3_lays_3 : decode cX3_lays 3 = .ok (.iload_n 3, 1) := dk_29 (dk_at dksX3_lays_0 3 rfl rfl)
theorem dX3_lays_4 : decode cX3_lays 4 = .ok (.iconst 1, 1) := dk_4 (dk_at dksX3_lays_0 4 rfl rfl)
theorem dX3_lays_5 : decode cX3_lays 5 = .ok (.invokevirtual 212, 3) := dk_182 0 212 (dk_at dksX3_lays_0 5 rfl rfl)
theorem dX3_lays_8 : decode cX3_lays 8 = .ok (.aload_n 0, 1) := dk_42 (dk_at dksX3_lays_0 8 rfl rfl)
theorem dX3_lays_9 : decode cX3_lays 9 = .ok (.getfield 39, 3) := dk_180 0 39 (dk_at dksX3_lays_0 9 rfl rfl)
theorem dX3_lays_12 : decode cX3_lays 12 = .ok (.aload_n 0, 1) := dk_42 (dk_at dksX3_lays_0 12 rfl rfl)
theorem dX3_lays_13 : decode cX3_lays 13 = .ok (.getfield 216, 3) := dk_180 0 216 (dk_at dksX3_lays_0 13 rfl rfl)
theorem dX3_lays_16 : decode cX3_lays 16 = .ok (.iconst 1, 1) := dk_4 (dk_at dksX3_lays_0 16 rfl rfl)
theorem dX3_lays_17 : decode cX3_lays 17 = .ok (.iastore, 1) := dk_79 (dk_at dksX3_lays_0 17 rfl rfl)
theorem dX3_lays_18 : decode cX3_lays 18 = .ok (.aload_n 0, 1) := dk_42 (dk_at dksX3_lays_0 18 rfl rfl)
theorem dX3_lays_19 : decode cX3_lays 19 = .ok (.dup, 1) := dk_89 (dk_at dksX3_lays_0 19 rfl rfl)
theorem dX3_lays_20 : decode cX3_lays 20 = .ok (.getfield 216, 3) := dk_180 0 216 (dk_at dksX3_lays_0 20 rfl rfl)
theorem dX3_lays_23 : decode cX3_lays 23 = .ok (.iconst 1, 1) := dk_4 (dk_at dksX3_lays_0 23 rfl rfl)
theorem dX3_lays_24 : decode cX3_lays 24 = .ok (.iadd, 1) := dk_96 (dk_at dksX3_lays_1 0 rfl rfl)
theorem dX3_lays_25 : decode cX3_lays 25 = .ok (.putfield 216, 3) := dk_181 0 216 (dk_at dksX3_lays_1 1 rfl rfl)
theorem dX3_lays_28 : decode cX3_lays 28 = .ok (.aload_n 0, 1) := dk_42 (dk_at dksX3_lays_1 4 rfl rfl)
theorem dX3_lays_29 : decode cX3_lays 29 = .ok (.getfield 216, 3) := dk_180 0 216 (dk_at dksX3_lays_1 5 rfl rfl)
theorem dX3_lays_32 : decode cX3_lays 32 = .ok (.ireturn, 1) := dk_172 (dk_at dksX3_lays_1 8 rfl rfl)
abbrev cX3_puts : ByteArray := prog_13_method_40_code
def yX3_puts : MethodName := ⟨RX3, "puts", "(IIII)V"⟩
def dkwX3_puts_2 : List UInt8 := [181, 0, 209, 177]
abbrev dktX3_puts_2 : List UInt8 := dkwX3_puts_2 ++ []
def dkwX3_puts_1 : List UInt8 := [42, 180, 0, 209, 29, 79, 42, 180, 0, 51, 42, 180, 0, 209, 21, 4, 79, 42, 89, 180, 0, 209, 4, 96]
abbrev dktX3_puts_1 : List UInt8 := dkwX3_puts_1 ++ dktX3_puts_2
def dkwX3_puts_0 : List UInt8 := [42, 180, 0, 42, 42, 180, 0, 209, 27, 79, 42, 180, 0, 45, 42, 180, 0, 209, 28, 79, 42, 180, 0, 48]
abbrev dktX3_puts_0 : List UInt8 := dkwX3_puts_0 ++ dktX3_puts_1
theorem dksX3_puts_0 : cX3_puts.data.toList.drop 0 = dktX3_puts_0 := by decide +kernel
theorem dksX3_puts_1 : cX3_puts.data.toList.drop 24 = dktX3_puts_1 := dk_seg dksX3_puts_0 24 rfl rfl
theorem dksX3_puts_2 : cX3_puts.data.toList.drop 48 = dktX3_puts_2 := dk_seg dksX3_puts_1 24 rfl rfl
theorem dX3_puts_0 : decode cX3_puts 0 = .ok (.aload_n 0, 1) := dk_42 (dk_at dksX3_puts_0 0 rfl rfl)
theorem dX3_puts_1 : decode cX3_puts 1 = .ok (.getfield 42, 3) := dk_180 0 42 (dk_at dksX3_puts_0 1 rfl rfl)
theorem dX3_puts_4 : decode cX3_puts 4 = .ok (.aload_n 0, 1) := dk_42 (dk_at dksX3_puts_0 4 rfl rfl)
theorem dX3_puts_5 : decode cX3_puts 5 = .ok (.getfield 209, 3) := dk_180 0 209 (dk_at dksX3_puts_0 5 rfl rfl)
theorem dX3_puts_8 : decode cX3_puts 8 = .ok (.iload_n 1, 1) := dk_27 (dk_at dksX3_puts_0 8 rfl rfl)
theorem dX3_puts_9 : decode cX3_puts 9 = .ok (.iastore, 1) := dk_79 (dk_at dksX3_puts_0 9 rfl rfl)
theorem dX3_puts_10 : decode cX3_puts 10 = .ok (.aload_n 0, 1) := dk_42 (dk_at dksX3_puts_0 10 rfl rfl)
theorem dX3_puts_11 : decode cX3_puts 11 = .ok (.getfield 45, 3) := dk_180 0 45 (dk_at dksX3_puts_0 11 rfl rfl)
theorem dX3_puts_14 : decode cX3_puts 14 = .ok (.aload_n 0, 1) := dk_42 (dk_at dksX3_puts_0 14 rfl rfl)
theorem dX3_puts_15 : decode cX3_puts 15 = .ok (.getfield 209, 3) := dk_180 0 209 (dk_at dksX3_puts_0 15 rfl rfl)
theorem dX3_puts_18 : decode cX3_puts 18 = .ok (.iload_n 2, 1) := dk_28 (dk_at dksX3_puts_0 18 rfl rfl)
theorem dX3_puts_19 : decode cX3_puts 19 = .ok (.iastore, 1) := dk_79 (dk_at dksX3_puts_0 19 rfl rfl)
theorem dX3_puts_20 : decode cX3_puts 20 = .ok (.aload_n 0, 1) := dk_42 (dk_at dksX3_puts_0 20 rfl rfl)
theorem dX3_puts_21 : decode cX3_puts 21 = .ok (.getfield 48, 3) := dk_180 0 48 (dk_at dksX3_puts_0 21 rfl rfl)
theorem dX3_puts_24 : decode cX3_puts 24 = .ok (.aload_n 0, 1) := dk_42 (dk_at dksX3_puts_1 0 rfl rfl)
theorem dX3_puts_25 : decode cX3_puts 25 = .ok (.getfield 209, 3) := dk_180 0 209 (dk_at dksX3_puts_1 1 rfl rfl)
theorem dX3_puts_28 : decode cX3_puts 28 = .ok (.iload_n 3, 1) := dk_29 (dk_at dksX3_puts_1 4 rfl rfl)
theorem dX3_puts_29 : decode cX3_puts 29 = .ok (.iastore, 1) := dk_79 (dk_at dksX3_puts_1 5 rfl rfl)
theorem dX3_puts_30 : decode cX3_puts 30 = .ok (.aload_n 0, 1) := dk_42 (dk_at dksX3_puts_1 6 rfl rfl)
theorem dX3_puts_31 : decode cX3_puts 31 = .ok (.getfield 51, 3) := dk_180 0 51 (dk_at dksX3_puts_1 7 rfl rfl)
theorem dX3_puts_34 : decode cX3_puts 34 = .ok (.aload_n 0, 1) := dk_42 (dk_at dksX3_puts_1 10 rfl rfl)
theorem dX3_puts_35 : decode cX3_puts 35 = .ok (.getfield 209, 3) := dk_180 0 209 (dk_at dksX3_puts_1 11 rfl rfl)
theorem dX3_puts_38 : decode cX3_puts 38 = .ok (.iload 4, 2) := dk_21 4 (dk_at dksX3_puts_1 14 rfl rfl)
theorem dX3_puts_40 : decode cX3_puts 40 = .ok (.iastore, 1) := dk_79 (dk_at dksX3_puts_1 16 rfl rfl)
theorem dX3_puts_41 : decode cX3_puts 41 = .ok (.aload_n 0, 1) := dk_42 (dk_at dksX3_puts_1 17 rfl rfl)
theorem dX3_puts_42 : decode cX3_puts 42 = .ok (.dup, 1) := dk_89 (dk_at dksX3_puts_1 18 rfl rfl)
theorem dX3_puts_43 : decode cX3_puts 43 = .ok (.getfield 209, 3) := dk_180 0 209 (dk_at dksX3_puts_1 19 rfl rfl)
theorem dX3_puts_46 : decode cX3_puts 46 = .ok (.iconst 1, 1) := dk_4 (dk_at dksX3_puts_1 22 rfl rfl)
theorem dX3_puts_47 : decode cX3_puts 47 = .ok (.iadd, 1) := dk_96 (dk_at dksX3_puts_1 23 rfl rfl)
theorem dX3_puts_48 : decode cX3_puts 48 = .ok (.putfield 209, 3) := dk_181 0 209 (dk_at dksX3_puts_2 0 rfl rfl)
theorem dX3_puts_51 : decode cX3_puts 51 = .ok (.return_, 1) := dk_177 (dk_at dksX3_puts_2 3 rfl rfl)
abbrev cX3_valueIs : ByteArray := prog_13_method_47_code
def yX3_valueIs : MethodName := ⟨RX3, "valueIs", "(II)I"⟩
def dkwX3_valueIs_2 : List UInt8 := [153, 0, 13, 42, 4, 27, 28, 182, 0, 228, 167, 0, 4, 3, 172]
abbrev dktX3_valueIs_2 : List UInt8 := dkwX3_valueIs_2 ++ []
def dkwX3_valueIs_1 : List UInt8 := [167, 0, 4, 3, 42, 180, 0, 216, 16, 8, 162, 0, 7, 4, 167, 0, 4, 3, 4, 182, 0, 181]
abbrev dktX3_valueIs_1 : List UInt8 := dkwX3_valueIs_1 ++ dktX3_valueIs_2
def dkwX3_valueIs_0 : List UInt8 := [42, 27, 3, 5, 184, 0, 87, 153, 0, 20, 28, 17, 252, 24, 17, 3, 232, 184, 0, 87, 153, 0, 7, 4]
abbrev dktX3_valueIs_0 : List UInt8 := dkwX3_valueIs_0 ++ dktX3_valueIs_1
theorem dksX3_valueIs_0 : cX3_valueIs.data.toList.drop 0 = dktX3_valueIs_0 := by decide +kernel
theorem dksX3_valueIs_1 : cX3_valueIs.data.toList.drop 24 = dktX3_valueIs_1 := dk_seg dksX3_valueIs_0 24 rfl rfl
theorem dksX3_valueIs_2 : cX3_valueIs.data.toList.drop 46 = dktX3_valueIs_2 := dk_seg dksX3_valueIs_1 22 rfl rfl
theorem dX3_valueIs_0 : decode cX3_valueIs 0 = .ok (.aload_n 0, 1) := dk_42 (dk_at dksX3_valueIs_0 0 rfl rfl)
theorem dX3_valueIs_1 : decode cX3_valueIs 1 = .ok (.iload_n 1, 1) := dk_27 (dk_at dksX3_valueIs_0 1 rfl rfl)
theorem dX3_valueIs_2 : decode cX3_valueIs 2 = .ok (.iconst 0, 1) := dk_3 (dk_at dksX3_valueIs_0 2 rfl rfl)
theorem dX3_valueIs_3 : decode cX3_valueIs 3 = .ok (.iconst 2, 1) := dk_5 (dk_at dksX3_valueIs_0 3 rfl rfl)
theorem dX3_valueIs_4 : decode cX3_valueIs 4 = .ok (.invokestatic 87, 3) := dk_184 0 87 (dk_at dksX3_valueIs_0 4 rfl rfl)
theorem dX3_valueIs_7 : decode cX3_valueIs 7 = .ok (.ifCond .eq 20, 3) := dk_153 0 20 (dk_at dksX3_valueIs_0 7 rfl rfl)
theorem dX3_valueIs_10 : decode cX3_valueIs 10 = .ok (.iload_n 2, 1) := dk_28 (dk_at dksX3_valueIs_0 10 rfl rfl)
theorem dX3_valueIs_11 : decode cX3_valueIs 11 = .ok (.sipush (-1000), 3) := dk_17 252 24 (dk_at dksX3_valueIs_0 11 rfl rfl)
theorem dX3_valueIs_14 : decode cX3_valueIs 14 = .ok (.sipush 1000, 3) := dk_17 3 232 (dk_at dksX3_valueIs_0 14 rfl rfl)
theorem dX3_valueIs_17 : decode cX3_valueIs 17 = .ok (.invokestatic 87, 3) := dk_184 0 87 (dk_at dksX3_valueIs_0 17 rfl rfl)
theorem dX3_valueIs_20 : decode cX3_valueIs 20 = .ok (.ifCond .eq 7, 3) := dk_153 0 7 (dk_at dksX3_valueIs_0 20 rfl rfl)
theorem dX3_valueIs_23 : decode cX3_valueIs 23 = .ok (.iconst 1, 1) := dk_4 (dk_at dksX3_valueIs_0 23 rfl rfl)
theorem dX3_valueIs_24 : decode cX3_valueIs 24 = .ok (.goto 4, 3) := dk_167 0 4 (dk_at dksX3_valueIs_1 0 rfl rfl)
theorem dX3_valueIs_27 : decode cX3_valueIs 27 = .ok (.iconst 0, 1) := dk_3 (dk_at dksX3_valueIs_1 3 rfl rfl)
theorem dX3_valueIs_28 : decode cX3_valueIs 28 = .ok (.aload_n 0, 1) := dk_42 (dk_at dksX3_valueIs_1 4 rfl rfl)
theorem dX3_valueIs_29 : decode cX3_valueIs 29 = .ok (.getfield 216, 3) := dk_180 0 216 (dk_at dksX3_valueIs_1 5 rfl rfl)
theorem dX3_valueIs_32 : decode cX3_valueIs 32 = .ok (.bipush 8, 2) := dk_16 8 (dk_at dksX3_valueIs_1 8 rfl rfl)
theorem dX3_valueIs_34 : decode cX3_valueIs 34 = .ok (.if_icmp .ge 7, 3) := dk_162 0 7 (dk_at dksX3_valueIs_1 10 rfl rfl)
theorem dX3_valueIs_37 : decode cX3_valueIs 37 = .ok (.iconst 1, 1) := dk_4 (dk_at dksX3_valueIs_1 13 rfl rfl)
theorem dX3_valueIs_38 : decode cX3_valueIs 38 = .ok (.goto 4, 3) := dk_167 0 4 (dk_at dksX3_valueIs_1 14 rfl rfl)
theorem dX3_valueIs_41 : decode cX3_valueIs 41 = .ok (.iconst 0, 1) := dk_3 (dk_at dksX3_valueIs_1 17 rfl rfl)
theorem dX3_valueIs_42 : decode cX3_valueIs 42 = .ok (.iconst 1, 1) := dk_4 (dk_at dksX3_valueIs_1 18 rfl rfl)
theorem dX3_valueIs_43 : decode cX3_valueIs 43 = .ok (.invokevirtual 181, 3) := dk_182 0 181 (dk_at dksX3_valueIs_1 19 rfl rfl)
theorem dX3_valueIs_46 : decode cX3_valueIs 46 = .ok (.ifCond .eq 13, 3) := dk_153 0 13 (dk_at dksX3_valueIs_2 0 rfl rfl)
theorem dX3_valueIs_49 : decode cX3_valueIs 49 = .ok (.aload_n 0, 1) := dk_42 (dk_at dksX3_valueIs_2 3 rfl rfl)
theorem dX3_valueIs_50 : decode cX3_valueIs 50 = .ok (.iconst 1, 1) := dk_4 (dk_at dksX3_valueIs_2 4 rfl rfl)
theorem dX3_valueIs_51 : decode cX3_valueIs 51 = .ok (.iload_n 1, 1) := dk_27 (dk_at dksX3_valueIs_2 5 rfl rfl)
theorem dX3_valueIs_52 : decode cX3_valueIs 52 = .ok (.iload_n 2, 1) := dk_28 (dk_at dksX3_valueIs_2 6 rfl rfl)
theorem dX3_valueIs_53 : decode cX3_valueIs 53 = .ok (.invokevirtual 228, 3) := dk_182 0 228 (dk_at dksX3_valueIs_2 7 rfl rfl)
theorem dX3_valueIs_56 : decode cX3_valueIs 56 = .ok (.goto 4, 3) := dk_167 0 4 (dk_at dksX3_valueIs_2 10 rfl rfl)
theorem dX3_valueIs_59 : decode cX3_valueIs 59 = .ok (.iconst 0, 1) := dk_3 (dk_at dksX3_valueIs_2 13 rfl rfl)
theorem dX3_valueIs_60 : decode cX3_valueIs 60 = .ok (.ireturn, 1) := dk_172 (dk_at dksX3_valueIs_2 14 rfl rfl)
abbrev cX3_not_2 : ByteArray := prog_13_method_48_code
def yX3_not_2 : MethodName := ⟨RX3, "not", "()I"⟩
def dkwX3_not_2_0 : List UInt8 := [42, 5, 4, 182, 0, 231, 172]
abbrev dktX3_not_2_0 : List UInt8 := dkwX3_not_2_0 ++ []
theorem dksX3_not_2_0 : cX3_not_2.data.toList.drop 0 = dktX3_not_2_0 := by decide +kernel
theorem dX3_not_2_0 : decode cX3_not_2 0 = .ok (.aload_n 0, 1) := dk_42 (dk_at dksX3_not_2_0 0 rfl rfl)
theorem dX3_not_2_1 : decode cX3_not_2 1 = .ok (.iconst 2, 1) := dk_5 (dk_at dksX3_not_2_0 1 rfl rfl)
theorem dX3_not_2_2 : decode cX3_not_2 2 = .ok (.iconst 1, 1) := dk_4 (dk_at dksX3_not_2_0 2 rfl rfl)
theorem dX3_not_2_3 : decode cX3_not_2 3 = .ok (.invokevirtual 231, 3) := dk_182 0 231 (dk_at dksX3_not_2_0 3 rfl rfl)
theorem dX3_not_2_6 : decode cX3_not_2 6 = .ok (.ireturn, 1) := dk_172 (dk_at dksX3_not_2_0 6 rfl rfl)
abbrev cX3_joins : ByteArray := prog_13_method_44_code
def yX3_joins : MethodName := ⟨RX3, "joins", "(II)I"⟩
def dkwX3_joins_1 : List UInt8 := [167, 0, 4, 3, 172]
abbrev dktX3_joins_1 : List UInt8 := dkwX3_joins_1 ++ []
def dkwX3_joins_0 : List UInt8 := [42, 42, 28, 182, 0, 219, 4, 4, 182, 0, 181, 153, 0, 14, 42, 27, 28, 3, 3, 182, 0, 222]
abbrev dktX3_joins_0 : List UInt8 := dkwX3_joins_0 ++ dktX3_joins_1
theorem dksX3_joins_0 : cX3_joins.data.toList.drop 0 = dktX3_joins_0 := by decide +kernel
theorem dksX3_joins_1 : cX3_joins.data.toList.drop 22 = dktX3_joins_1 := dk_seg dksX3_joins_0 22 rfl rfl
theorem dX3_joins_0 : decode cX3_joins 0 = .ok (.aload_n 0, 1) := dk_42 (dk_at dksX3_joins_0 0 rfl rfl)
theorem dX3_joins_1 : decode cX3_joins 1 = .ok (.aload_n 0, 1) := dk_42 (dk_at dksX3_joins_0 1 rfl rfl)
theorem dX3_joins_2 : decode cX3_joins 2 = .ok (.iload_n 2, 1) := dk_28 (dk_at dksX3_joins_0 2 rfl rfl)
theorem dX3_joins_3 : decode cX3_joins 3 = .ok (.invokevirtual 219, 3) := dk_182 0 219 (dk_at dksX3_joins_0 3 rfl rfl)
theorem dX3_joins_6 : decode cX3_joins 6 = .ok (.iconst 1, 1) := dk_4 (dk_at dksX3_joins_0 6 rfl rfl)
theorem dX3_joins_7 : decode cX3_joins 7 = .ok (.iconst 1, 1) := dk_4 (dk_at dksX3_joins_0 7 rfl rfl)
theorem dX3_joins_8 : decode cX3_joins 8 = .ok (.invokevirtual 181, 3) := dk_182 0 181 (dk_at dksX3_joins_0 8 rfl rfl)
theorem dX3_joins_11 : decode cX3_joins 11 = .ok (.ifCond .eq 14, 3) := dk_153 0 14 (dk_at dksX3_joins_0 11 rfl rfl)
theorem dX3_joins_14 : decode cX3_joins 14 = .ok (.aload_n 0, 1) := dk_42 (dk_at dksX3_joins_0 14 rfl rfl)
theorem dX3_joins_15 : decode cX3_joins 15 = .ok (.iload_n 1, 1) := dk_27 (dk_at dksX3_joins_0 15 rfl rfl)
theorem dX3_joins_16 : decode cX3_joins 16 = .ok (.iload_n 2, 1) := dk_28 (dk_at dksX3_joins_0 16 rfl rfl)
theorem dX3_joins_17 : decode cX3_joins 17 = .ok (.iconst 0, 1) := dk_3 (dk_at dksX3_joins_0 17 rfl rfl)
theorem dX3_joins_18 : decode cX3_joins 18 = .ok (.iconst 0, 1) := dk_3 (dk_at dksX3_joins_0 18 rfl rfl)
theorem dX3_joins_19 : decode cX3_joins 19 = .ok (.invokevirtual 222, 3) := dk_182 0 222 (dk_at dksX3_joins_0 19 rfl rfl)
theorem dX3_joins_22 : decode cX3_joins 22 = .ok (.goto 4, 3) := dk_167 0 4 (dk_at dksX3_joins_1 0 rfl rfl)
theorem dX3_joins_25 : decode cX3_joins 25 = .ok (.iconst 0, 1) := dk_3 (dk_at dksX3_joins_1 3 rfl rfl)
theorem dX3_joins_26 : decode cX3_joins 26 = .ok (.ireturn, 1) := dk_172 (dk_at dksX3_joins_1 4 rfl rfl)
abbrev cX3_canMake : ByteArray := prog_13_method_42_code
def yX3_canMake : MethodName := ⟨RX3, "canMake", "(I)Z"⟩
def dkwX3_canMake_2 : List UInt8 := [28, 16, 24, 163, 0, 7, 4, 167, 0, 4, 3, 172]
abbrev dktX3_canMake_2 : List UInt8 := dkwX3_canMake_2 ++ []
def dkwX3_canMake_1 : List UInt8 := [180, 0, 216, 4, 100, 29, 100, 46, 96, 61, 132, 3, 1, 167, 255, 224, 42, 180, 0, 216, 27, 161, 0, 13]
abbrev dktX3_canMake_1 : List UInt8 := dkwX3_canMake_1 ++ dktX3_canMake_2
def dkwX3_canMake_0 : List UInt8 := [4, 61, 3, 62, 29, 27, 162, 0, 33, 29, 42, 180, 0, 216, 162, 0, 25, 28, 42, 180, 0, 39, 42]
abbrev dktX3_canMake_0 : List UInt8 := dkwX3_canMake_0 ++ dktX3_canMake_1
theorem dksX3_canMake_0 : cX3_canMake.data.toList.drop 0 = dktX3_canMake_0 := by decide +kernel
theorem dksX3_canMake_1 : cX3_canMake.data.toList.drop 23 = dktX3_canMake_1 := dk_seg dksX3_canMake_0 23 rfl rfl
theorem dksX3_canMake_2 : cX3_canMake.data.toList.drop 47 = dktX3_canMake_2 := dk_seg dksX3_canMake_1 24 rfl rfl
theorem dX3_canMake_0 : decode cX3_canMake 0 = .ok (.iconst 1, 1) := dk_4 (dk_at dksX3_canMake_0 0 rfl rfl)
theorem dX3_canMake_1 : decode cX3_canMake 1 = .ok (.istore_n 2, 1) := dk_61 (dk_at dksX3_canMake_0 1 rfl rfl)
theorem dX3_canMake_2 : decode cX3_canMake 2 = .ok (.iconst 0, 1) := dk_3 (dk_at dksX3_canMake_0 2 rfl rfl)
theorem dX3_canMake_3 : decode cX3_canMake 3 = .ok (.istore_n 3, 1) := dk_62 (dk_at dksX3_canMake_0 3 rfl rfl)
theorem dX3_canMake_4 : decode cX3_canMake 4 = .ok (.iload_n 3, 1) := dk_29 (dk_at dksX3_canMake_0 4 rfl rfl)
theorem dX3_canMake_5 : decode cX3_canMake 5 = .ok (.iload_n 1, 1) := dk_27 (dk_at dksX3_canMake_0 5 rfl rfl)
theorem dX3_canMake_6 : decode cX3_canMake 6 = .ok (.if_icmp .ge 33, 3) := dk_162 0 33 (dk_at dksX3_canMake_0 6 rfl rfl)
theorem dX3_canMake_9 : decode cX3_canMake 9 = .ok (.iload_n 3, 1) := dk_29 (dk_at dksX3_canMake_0 9 rfl rfl)
theorem dX3_canMake_10 : decode cX3_canMake 10 = .ok (.aload_n 0, 1) := dk_42 (dk_at dksX3_canMake_0 10 rfl rfl)
theorem dX3_canMake_11 : decode cX3_canMake 11 = .ok (.getfield 216, 3) := dk_180 0 216 (dk_at dksX3_canMake_0 11 rfl rfl)
theorem dX3_canMake_14 : decode cX3_canMake 14 = .ok (.if_icmp .ge 25, 3) := dk_162 0 25 (dk_at dksX3_canMake_0 14 rfl rfl)
theorem dX3_canMake_17 : decode cX3_canMake 17 = .ok (.iload_n 2, 1) := dk_28 (dk_at dksX3_canMake_0 17 rfl rfl)
theorem dX3_canMake_18 : decode cX3_canMake 18 = .ok (.aload_n 0, 1) := dk_42 (dk_at dksX3_canMake_0 18 rfl rfl)
theorem dX3_canMake_19 : decode cX3_canMake 19 = .ok (.getfield 39, 3) := dk_180 0 39 (dk_at dksX3_canMake_0 19 rfl rfl)
theorem dX3_canMake_22 : decode cX3_canMake 22 = .ok (.aload_n 0, 1) := dk_42 (dk_at dksX3_canMake_0 22 rfl rfl)
theorem dX3_canMake_23 : decode cX3_canMake 23 = .ok (.getfield 216, 3) := dk_180 0 216 (dk_at dksX3_canMake_1 0 rfl rfl)
theorem dX3_canMake_26 : decode cX3_canMake 26 = .ok (.iconst 1, 1) := dk_4 (dk_at dksX3_canMake_1 3 rfl rfl)
theorem dX3_canMake_27 : decode cX3_canMake 27 = .ok (.isub, 1) := dk_100 (dk_at dksX3_canMake_1 4 rfl rfl)
theorem dX3_canMake_28 : decode cX3_canMake 28 = .ok (.iload_n 3, 1) := dk_29 (dk_at dksX3_canMake_1 5 rfl rfl)
theorem dX3_canMake_29 : decode cX3_canMake 29 = .ok (.isub, 1) := dk_100 (dk_at dksX3_canMake_1 6 rfl rfl)
theorem dX3_canMake_30 : decode cX3_canMake 30 = .ok (.iaload, 1) := dk_46 (dk_at dksX3_canMake_1 7 rfl rfl)
theorem dX3_canMake_31 : decode cX3_canMake 31 = .ok (.iadd, 1) := dk_96 (dk_at dksX3_canMake_1 8 rfl rfl)
theorem dX3_canMake_32 : decode cX3_canMake 32 = .ok (.istore_n 2, 1) := dk_61 (dk_at dksX3_canMake_1 9 rfl rfl)
theorem dX3_canMake_33 : decode cX3_canMake 33 = .ok (.iinc 3 1, 3) := dk_132 3 1 (dk_at dksX3_canMake_1 10 rfl rfl)
theorem dX3_canMake_36 : decode cX3_canMake 36 = .ok (.goto (-32), 3) := dk_167 255 224 (dk_at dksX3_canMake_1 13 rfl rfl)
theorem dX3_canMake_39 : decode cX3_canMake 39 = .ok (.aload_n 0, 1) := dk_42 (dk_at dksX3_canMake_1 16 rfl rfl)
theorem dX3_canMake_40 : decode cX3_canMake 40 = .ok (.getfield 216, 3) := dk_180 0 216 (dk_at dksX3_canMake_1 17 rfl rfl)
theorem dX3_canMake_43 : decode cX3_canMake 43 = .ok (.iload_n 1, 1) := dk_27 (dk_at dksX3_canMake_1 20 rfl rfl)
theorem dX3_canMake_44 : decode cX3_canMake 44 = .ok (.if_icmp .lt 13, 3) := dk_161 0 13 (dk_at dksX3_canMake_1 21 rfl rfl)
theorem dX3_canMake_47 : decode cX3_canMake 47 = .ok (.iload_n 2, 1) := dk_28 (dk_at dksX3_canMake_2 0 rfl rfl)
theorem dX3_canMake_48 : decode cX3_canMake 48 = .ok (.bipush 24, 2) := dk_16 24 (dk_at dksX3_canMake_2 1 rfl rfl)
theorem dX3_canMake_50 : decode cX3_canMake 50 = .ok (.if_icmp .gt 7, 3) := dk_163 0 7 (dk_at dksX3_canMake_2 3 rfl rfl)
theorem dX3_canMake_53 : decode cX3_canMake 53 = .ok (.iconst 1, 1) := dk_4 (dk_at dksX3_canMake_2 6 rfl rfl)
theorem dX3_canMake_54 : decode cX3_canMake 54 = .ok (.goto 4, 3) := dk_167 0 4 (dk_at dksX3_canMake_2 7 rfl rfl)
theorem dX3_canMake_57 : decode cX3_canMake 57 = .ok (.iconst 0, 1) := dk_3 (dk_at dksX3_canMake_2 10 rfl rfl)
theorem dX3_canMake_58 : decode cX3_canMake 58 = .ok (.ireturn, 1) := dk_172 (dk_at dksX3_canMake_2 11 rfl rfl)
abbrev cX3_makes : ByteArray := prog_13_method_43_code
def yX3_makes : MethodName := ⟨RX3, "makes", "(IIII)I"⟩
def dkwX3_makes_3 : List UInt8 := [42, 180, 0, 216, 172]
abbrev dktX3_makes_3 : List UInt8 := dkwX3_makes_3 ++ []
def dkwX3_makes_2 : List UInt8 := [89, 180, 0, 216, 28, 4, 100, 100, 181, 0, 216, 42, 180, 0, 39, 42, 180, 0, 216, 4, 100, 21, 5, 79]
abbrev dktX3_makes_2 : List UInt8 := dkwX3_makes_2 ++ dktX3_makes_3
def dkwX3_makes_1 : List UInt8 := [21, 6, 100, 46, 96, 54, 5, 132, 6, 1, 167, 255, 228, 42, 27, 29, 21, 4, 21, 5, 182, 0, 212, 42]
abbrev dktX3_makes_1 : List UInt8 := dkwX3_makes_1 ++ dktX3_makes_2
def dkwX3_makes_0 : List UInt8 := [4, 54, 5, 3, 54, 6, 21, 6, 28, 162, 0, 28, 21, 5, 42, 180, 0, 39, 42, 180, 0, 216, 4, 100]
abbrev dktX3_makes_0 : List UInt8 := dkwX3_makes_0 ++ dktX3_makes_1
theorem dksX3_makes_0 : cX3_makes.data.toList.drop 0 = dktX3_makes_0 := by decide +kernel
theorem dksX3_makes_1 : cX3_makes.data.toList.drop 24 = dktX3_makes_1 := dk_seg dksX3_makes_0 24 rfl rfl
theorem dksX3_makes_2 : cX3_makes.data.toList.drop 48 = dktX3_makes_2 := dk_seg dksX3_makes_1 24 rfl rfl
theorem dksX3_makes_3 : cX3_makes.data.toList.drop 72 = dktX3_makes_3 := dk_seg dksX3_makes_2 24 rfl rfl
theorem dX3_makes_0 : decode cX3_makes 0 = .ok (.iconst 1, 1) := dk_4 (dk_at dksX3_makes_0 0 rfl rfl)
theorem dX3_makes_1 : decode cX3_makes 1 = .ok (.istore 5, 2) := dk_54 5 (dk_at dksX3_makes_0 1 rfl rfl)
theorem dX3_makes_3 : decode cX3_makes 3 = .ok (.iconst 0, 1) := dk_3 (dk_at dksX3_makes_0 3 rfl rfl)
theorem dX3_makes_4 : decode cX3_makes 4 = .ok (.istore 6, 2) := dk_54 6 (dk_at dksX3_makes_0 4 rfl rfl)
theorem dX3_makes_6 : decode cX3_makes 6 = .ok (.iload 6, 2) := dk_21 6 (dk_at dksX3_makes_0 6 rfl rfl)
theorem dX3_makes_8 : decode cX3_makes 8 = .ok (.iload_n 2, 1) := dk_28 (dk_at dksX3_makes_0 8 rfl rfl)
theorem dX3_makes_9 : decode cX3_makes 9 = .ok (.if_icmp .ge 28, 3) := dk_162 0 28 (dk_at dksX3_makes_0 9 rfl rfl)
theorem dX3_makes_12 : decode cX3_makes 12 = .ok (.iload 5, 2) := dk_21 5 (dk_at dksX3_makes_0 12 rfl rfl)
theorem dX3_makes_14 : decode cX3_makes 14 = .ok (.aload_n 0, 1) := dk_42 (dk_at dksX3_makes_0 14 rfl rfl)
theorem dX3_makes_15 : decode cX3_makes 15 = .ok (.getfield 39, 3) := dk_180 0 39 (dk_at dksX3_makes_0 15 rfl rfl)
theorem dX3_makes_18 : decode cX3_makes 18 = .ok (.aload_n 0, 1) := dk_42 (dk_at dksX3_makes_0 18 rfl rfl)
theorem dX3_makes_19 : decode cX3_makes 19 = .ok (.getfield 216, 3) := dk_180 0 216 (dk_at dksX3_makes_0 19 rfl rfl)
theorem dX3_makes_22 : decode cX3_makes 22 = .ok (.iconst 1, 1) := dk_4 (dk_at dksX3_makes_0 22 rfl rfl)
theorem dX3_makes_23 : decode cX3_makes 23 = .ok (.isub, 1) := dk_100 (dk_at dksX3_makes_0 23 rfl rfl)
theorem dX3_makes_24 : decode cX3_makes 24 = .ok (.iload 6, 2) := dk_21 6 (dk_at dksX3_makes_1 0 rfl rfl)
theorem dX3_makes_26 : decode cX3_makes 26 = .ok (.isub, 1) := dk_100 (dk_at dksX3_makes_1 2 rfl rfl)
theorem dX3_makes_27 : decode cX3_makes 27 = .ok (.iaload, 1) := dk_46 (dk_at dksX3_makes_1 3 rfl rfl)
theorem dX3_makes_28 : decode cX3_makes 28 = .ok (.iadd, 1) := dk_96 (dk_at dksX3_makes_1 4 rfl rfl)
theorem dX3_makes_29 : decode cX3_makes 29 = .ok (.istore 5, 2) := dk_54 5 (dk_at dksX3_makes_1 5 rfl rfl)
theorem dX3_makes_31 : decode cX3_makes 31 = .ok (.iinc 6 1, 3) := dk_132 6 1 (dk_at dksX3_makes_1 7 rfl rfl)
theorem dX3_makes_34 : decode cX3_makes 34 = .ok (.goto (-28), 3) := dk_167 255 228 (dk_at dksX3_makes_1 10 rfl rfl)
theorem dX3_makes_37 : decode cX3_makes 37 = .ok (.aload_n 0, 1) := dk_42 (dk_at dksX3_makes_1 13 rfl rfl)
theorem dX3_makes_38 : decode cX3_makes 38 = .ok (.iload_n 1, 1) := dk_27 (dk_at dksX3_makes_1 14 rfl rfl)
theorem dX3_makes_39 : decode cX3_makes 39 = .ok (.iload_n 3, 1) := dk_29 (dk_at dksX3_makes_1 15 rfl rfl)
theorem dX3_makes_40 : decode cX3_makes 40 = .ok (.iload 4, 2) := dk_21 4 (dk_at dksX3_makes_1 16 rfl rfl)
theorem dX3_makes_42 : decode cX3_makes 42 = .ok (.iload 5, 2) := dk_21 5 (dk_at dksX3_makes_1 18 rfl rfl)
theorem dX3_makes_44 : decode cX3_makes 44 = .ok (.invokevirtual 212, 3) := dk_182 0 212 (dk_at dksX3_makes_1 20 rfl rfl)
theorem dX3_makes_47 : decode cX3_makes 47 = .ok (.aload_n 0, 1) := dk_42 (dk_at dksX3_makes_1 23 rfl rfl)
theorem dX3_makes_48 : decode cX3_makes 48 = .ok (.dup, 1) := dk_89 (dk_at dksX3_makes_2 0 rfl rfl)
theorem dX3_makes_49 : decode cX3_makes 49 = .ok (.getfield 216, 3) := dk_180 0 216 (dk_at dksX3_makes_2 1 rfl rfl)
theorem dX3_makes_52 : decode cX3_makes 52 = .ok (.iload_n 2, 1) := dk_28 (dk_at dksX3_makes_2 4 rfl rfl)
theorem dX3_makes_53 : decode cX3_makes 53 = .ok (.iconst 1, 1) := dk_4 (dk_at dksX3_makes_2 5 rfl rfl)
theorem dX3_makes_54 : decode cX3_makes 54 = .ok (.isub, 1) := dk_100 (dk_at dksX3_makes_2 6 rfl rfl)
theorem dX3_makes_55 : decode cX3_makes 55 = .ok (.isub, 1) := dk_100 (dk_at dksX3_makes_2 7 rfl rfl)
theorem dX3_makes_56 : decode cX3_makes 56 = .ok (.putfield 216, 3) := dk_181 0 216 (dk_at dksX3_makes_2 8 rfl rfl)
theorem dX3_makes_59 : decode cX3_makes 59 = .ok (.aload_n 0, 1) := dk_42 (dk_at dksX3_makes_2 11 rfl rfl)
theorem dX3_makes_60 : decode cX3_makes 60 = .ok (.getfield 39, 3) := dk_180 0 39 (dk_at dksX3_makes_2 12 rfl rfl)
theorem dX3_makes_63 : decode cX3_makes 63 = .ok (.aload_n 0, 1) := dk_42 (dk_at dksX3_makes_2 15 rfl rfl)
theorem dX3_makes_64 : decode cX3_makes 64 = .ok (.getfield 216, 3) := dk_180 0 216 (dk_at dksX3_makes_2 16 rfl rfl)
theorem dX3_makes_67 : decode cX3_makes 67 = .ok (.iconst 1, 1) := dk_4 (dk_at dksX3_makes_2 19 rfl rfl)
theorem dX3_makes_68 : decode cX3_makes 68 = .ok (.isub, 1) := dk_100 (dk_at dksX3_makes_2 20 rfl rfl)
theorem dX3_makes_69 : decode cX3_makes 69 = .ok (.iload 5, 2) := dk_21 5 (dk_at dksX3_makes_2 21 rfl rfl)
theorem dX3_makes_71 : decode cX3_makes 71 = .ok (.iastore, 1) := dk_79 (dk_at dksX3_makes_2 23 rfl rfl)
theorem dX3_makes_72 : decode cX3_makes 72 = .ok (.aload_n 0, 1) := dk_42 (dk_at dksX3_makes_3 0 rfl rfl)
theorem dX3_makes_73 : decode cX3_makes 73 = .ok (.getfield 216, 3) := dk_180 0 216 (dk_at dksX3_makes_3 1 rfl rfl)
theorem dX3_makes_76 : decode cX3_makes 76 = .ok (.ireturn, 1) := dk_172 (dk_at dksX3_makes_3 4 rfl rfl)
abbrev cX3_both : ByteArray := prog_13_method_49_code
def yX3_both : MethodName := ⟨RX3, "both", "()I"⟩
def dkwX3_both_0 : List UInt8 := [42, 6, 5, 182, 0, 231, 172]
abbrev dktX3_both_0 : List UInt8 := dkwX3_both_0 ++ []
theorem dksX3_both_0 : cX3_both.data.toList.drop 0 = dktX3_both_0 := by decide +kernel
theorem dX3_both_0 : decode cX3_both 0 = .ok (.aload_n 0, 1) := dk_42 (dk_at dksX3_both_0 0 rfl rfl)
theorem dX3_both_1 : decode cX3_both 1 = .ok (.iconst 3, 1) := dk_6 (dk_at dksX3_both_0 1 rfl rfl)
theorem dX3_both_2 : decode cX3_both 2 = .ok (.iconst 2, 1) := dk_5 (dk_at dksX3_both_0 2 rfl rfl)
theorem dX3_both_3 : decode cX3_both 3 = .ok (.invokevirtual 231, 3) := dk_182 0 231 (dk_at dksX3_both_0 3 rfl rfl)
theorem dX3_both_6 : decode cX3_both 6 = .ok (.ireturn, 1) := dk_172 (dk_at dksX3_both_0 6 rfl rfl)
abbrev cX3_either : ByteArray := prog_13_method_50_code
def yX3_either : MethodName := ⟨RX3, "either", "()I"⟩
def dkwX3_either_0 : List UInt8 := [42, 7, 5, 182, 0, 231, 172]
abbrev dktX3_either_0 : List UInt8 := dkwX3_either_0 ++ []
theorem dksX3_either_0 : cX3_either.data.toList.drop 0 = dktX3_either_0 := by decide +kernel
theorem dX3_either_0 : decode cX3_either 0 = .ok (.aload_n 0, 1) := dk_42 (dk_at dksX3_either_0 0 rfl rfl)
theorem dX3_either_1 : decode cX3_either 1 = .ok (.iconst 4, 1) := dk_7 (dk_at dksX3_either_0 1 rfl rfl)
theorem dX3_either_2 : decode cX3_either 2 = .ok (.iconst 2, 1) := dk_5 (dk_at dksX3_either_0 2 rfl rfl)
theorem dX3_either_3 : decode cX3_either 3 = .ok (.invokevirtual 231, 3) := dk_182 0 231 (dk_at dksX3_either_0 3 rfl rfl)
theorem dX3_either_6 : decode cX3_either 6 = .ok (.ireturn, 1) := dk_172 (dk_at dksX3_either_0 6 rfl rfl)
abbrev cX3_before : ByteArray := prog_13_method_51_code
def yX3_before : MethodName := ⟨RX3, "before", "()I"⟩
def dkwX3_before_0 : List UInt8 := [42, 8, 4, 182, 0, 231, 172]
abbrev dktX3_before_0 : List UInt8 := dkwX3_before_0 ++ []
theorem dksX3_before_0 : cX3_before.data.toList.drop 0 = dktX3_before_0 := by decide +kernel
theorem dX3_before_0 : decode cX3_before 0 = .ok (.aload_n 0, 1) := dk_42 (dk_at dksX3_before_0 0 rfl rfl)
theorem dX3_before_1 : decode cX3_before 1 = .ok (.iconst 5, 1) := dk_8 (dk_at dksX3_before_0 1 rfl rfl)
theorem dX3_before_2 : decode cX3_before 2 = .ok (.iconst 1, 1) := dk_4 (dk_at dksX3_before_0 2 rfl rfl)
theorem dX3_before_3 : decode cX3_before 3 = .ok (.invokevirtual 231, 3) := dk_182 0 231 (dk_at dksX3_before_0 3 rfl rfl)
theorem dX3_before_6 : decode cX3_before 6 = .ok (.ireturn, 1) := dk_172 (dk_at dksX3_before_0 6 rfl rfl)
abbrev cX3_since : ByteArray := prog_13_method_52_code
def yX3_since : MethodName := ⟨RX3, "since", "(I)I"⟩
def dkwX3_since_0 : List UInt8 := [42, 16, 6, 5, 27, 182, 0, 234, 172]
abbrev dktX3_since_0 : List UInt8 := dkwX3_since_0 ++ []
theorem dksX3_since_0 : cX3_since.data.toList.drop 0 = dktX3_since_0 := by decide +kernel
theorem dX3_since_0 : decode cX3_since 0 = .ok (.aload_n 0, 1) := dk_42 (dk_at dksX3_since_0 0 rfl rfl)
theorem dX3_since_1 : decode cX3_since 1 = .ok (.bipush 6, 2) := dk_16 6 (dk_at dksX3_since_0 1 rfl rfl)
theorem dX3_since_3 : decode cX3_since 3 = .ok (.iconst 2, 1) := dk_5 (dk_at dksX3_since_0 3 rfl rfl)
theorem dX3_since_4 : decode cX3_since 4 = .ok (.iload_n 1, 1) := dk_27 (dk_at dksX3_since_0 4 rfl rfl)
theorem dX3_since_5 : decode cX3_since 5 = .ok (.invokevirtual 234, 3) := dk_182 0 234 (dk_at dksX3_since_0 5 rfl rfl)
theorem dX3_since_8 : decode cX3_since 8 = .ok (.ireturn, 1) := dk_172 (dk_at dksX3_since_0 8 rfl rfl)
abbrev cX3_binds : ByteArray := prog_13_method_45_code
def yX3_binds : MethodName := ⟨RX3, "binds", "(III)I"⟩
def dkwX3_binds_1 : List UInt8 := [182, 0, 222, 167, 0, 4, 3, 172]
abbrev dktX3_binds_1 : List UInt8 := dkwX3_binds_1 ++ []
def dkwX3_binds_0 : List UInt8 := [42, 29, 184, 0, 225, 42, 28, 182, 0, 219, 4, 182, 0, 181, 153, 0, 14, 42, 27, 28, 3, 29]
abbrev dktX3_binds_0 : List UInt8 := dkwX3_binds_0 ++ dktX3_binds_1
theorem dksX3_binds_0 : cX3_binds.data.toList.drop 0 = dktX3_binds_0 := by decide +kernel
theorem dksX3_binds_1 : cX3_binds.data.toList.drop 22 = dktX3_binds_1 := dk_seg dksX3_binds_0 22 rfl rfl
theorem dX3_binds_0 : decode cX3_binds 0 = .ok (.aload_n 0, 1) := dk_42 (dk_at dksX3_binds_0 0 rfl rfl)
theorem dX3_binds_1 : decode cX3_binds 1 = .ok (.iload_n 3, 1) := dk_29 (dk_at dksX3_binds_0 1 rfl rfl)
theorem dX3_binds_2 : decode cX3_binds 2 = .ok (.invokestatic 225, 3) := dk_184 0 225 (dk_at dksX3_binds_0 2 rfl rfl)
theorem dX3_binds_5 : decode cX3_binds 5 = .ok (.aload_n 0, 1) := dk_42 (dk_at dksX3_binds_0 5 rfl rfl)
theorem dX3_binds_6 : decode cX3_binds 6 = .ok (.iload_n 2, 1) := dk_28 (dk_at dksX3_binds_0 6 rfl rfl)
theorem dX3_binds_7 : decode cX3_binds 7 = .ok (.invokevirtual 219, 3) := dk_182 0 219 (dk_at dksX3_binds_0 7 rfl rfl)
theorem dX3_binds_10 : decode cX3_binds 10 = .ok (.iconst 1, 1) := dk_4 (dk_at dksX3_binds_0 10 rfl rfl)
theorem dX3_binds_11 : decode cX3_binds 11 = .ok (.invokevirtual 181, 3) := dk_182 0 181 (dk_at dksX3_binds_0 11 rfl rfl)
theorem dX3_binds_14 : decode cX3_binds 14 = .ok (.ifCond .eq 14, 3) := dk_153 0 14 (dk_at dksX3_binds_0 14 rfl rfl)
theorem dX3_binds_17 : decode cX3_binds 17 = .ok (.aload_n 0, 1) := dk_42 (dk_at dksX3_binds_0 17 rfl rfl)
theorem dX3_binds_18 : decode cX3_binds 18 = .ok (.iload_n 1, 1) := dk_27 (dk_at dksX3_binds_0 18 rfl rfl)
theorem dX3_binds_19 : decode cX3_binds 19 = .ok (.iload_n 2, 1) := dk_28 (dk_at dksX3_binds_0 19 rfl rfl)
theorem dX3_binds_20 : decode cX3_binds 20 = .ok (.iconst 0, 1) := dk_3 (dk_at dksX3_binds_0 20 rfl rfl)
theorem dX3_binds_21 : decode cX3_binds 21 = .ok (.iload_n 3, 1) := dk_29 (dk_at dksX3_binds_0 21 rfl rfl)
theorem dX3_binds_22 : decode cX3_binds 22 = .ok (.invokevirtual 222, 3) := dk_182 0 222 (dk_at dksX3_binds_1 0 rfl rfl)
theorem dX3_binds_25 : decode cX3_binds 25 = .ok (.goto 4, 3) := dk_167 0 4 (dk_at dksX3_binds_1 3 rfl rfl)
theorem dX3_binds_28 : decode cX3_binds 28 = .ok (.iconst 0, 1) := dk_3 (dk_at dksX3_binds_1 6 rfl rfl)
theorem dX3_binds_29 : decode cX3_binds 29 = .ok (.ireturn, 1) := dk_172 (dk_at dksX3_binds_1 7 rfl rfl)
abbrev cX3_isBound : ByteArray := prog_13_method_8_code
def yX3_isBound : MethodName := ⟨RX3, "isBound", "(I)Z"⟩
def dkwX3_isBound_0 : List UInt8 := [26, 2, 17, 3, 232, 184, 0, 87, 172]
abbrev dktX3_isBound_0 : List UInt8 := dkwX3_isBound_0 ++ []
theorem dksX3_isBound_0 : cX3_isBound.data.toList.drop 0 = dktX3_isBound_0 := by decide +kernel
theorem dX3_isBound_0 : decode cX3_isBound 0 = .ok (.iload_n 0, 1) := dk_26 (dk_at dksX3_isBound_0 0 rfl rfl)
theorem dX3_isBound_1 : decode cX3_isBound 1 = .ok (.iconst (-1), 1) := dk_2 (dk_at dksX3_isBound_0 1 rfl rfl)
theorem dX3_isBound_2 : decode cX3_isBound 2 = .ok (.sipush 1000, 3) := dk_17 3 232 (dk_at dksX3_isBound_0 2 rfl rfl)
theorem dX3_isBound_5 : decode cX3_isBound 5 = .ok (.invokestatic 87, 3) := dk_184 0 87 (dk_at dksX3_isBound_0 5 rfl rfl)
theorem dX3_isBound_8 : decode cX3_isBound 8 = .ok (.ireturn, 1) := dk_172 (dk_at dksX3_isBound_0 8 rfl rfl)
abbrev cX3_once : ByteArray := prog_13_method_53_code
def yX3_once : MethodName := ⟨RX3, "once", "(I)I"⟩
def dkwX3_once_0 : List UInt8 := [42, 16, 7, 4, 27, 182, 0, 234, 172]
abbrev dktX3_once_0 : List UInt8 := dkwX3_once_0 ++ []
theorem dksX3_once_0 : cX3_once.data.toList.drop 0 = dktX3_once_0 := by decide +kernel
theorem dX3_once_0 : decode cX3_once 0 = .ok (.aload_n 0, 1) := dk_42 (dk_at dksX3_once_0 0 rfl rfl)
theorem dX3_once_1 : decode cX3_once 1 = .ok (.bipush 7, 2) := dk_16 7 (dk_at dksX3_once_0 1 rfl rfl)
theorem dX3_once_3 : decode cX3_once 3 = .ok (.iconst 1, 1) := dk_4 (dk_at dksX3_once_0 3 rfl rfl)
theorem dX3_once_4 : decode cX3_once 4 = .ok (.iload_n 1, 1) := dk_27 (dk_at dksX3_once_0 4 rfl rfl)
theorem dX3_once_5 : decode cX3_once 5 = .ok (.invokevirtual 234, 3) := dk_182 0 234 (dk_at dksX3_once_0 5 rfl rfl)
theorem dX3_once_8 : decode cX3_once 8 = .ok (.ireturn, 1) := dk_172 (dk_at dksX3_once_0 8 rfl rfl)
abbrev cX3_next : ByteArray := prog_13_method_54_code
def yX3_next : MethodName := ⟨RX3, "next", "()I"⟩
def dkwX3_next_0 : List UInt8 := [42, 16, 8, 4, 182, 0, 231, 172]
abbrev dktX3_next_0 : List UInt8 := dkwX3_next_0 ++ []
theorem dksX3_next_0 : cX3_next.data.toList.drop 0 = dktX3_next_0 := by decide +kernel
theorem dX3_next_0 : decode cX3_next 0 = .ok (.aload_n 0, 1) := dk_42 (dk_at dksX3_next_0 0 rfl rfl)
theorem dX3_next_1 : decode cX3_next 1 = .ok (.bipush 8, 2) := dk_16 8 (dk_at dksX3_next_0 1 rfl rfl)
theorem dX3_next_3 : decode cX3_next 3 = .ok (.iconst 1, 1) := dk_4 (dk_at dksX3_next_0 3 rfl rfl)
theorem dX3_next_4 : decode cX3_next 4 = .ok (.invokevirtual 231, 3) := dk_182 0 231 (dk_at dksX3_next_0 4 rfl rfl)
theorem dX3_next_7 : decode cX3_next 7 = .ok (.ireturn, 1) := dk_172 (dk_at dksX3_next_0 7 rfl rfl)
abbrev cX3_until : ByteArray := prog_13_method_55_code
def yX3_until : MethodName := ⟨RX3, "until", "(I)I"⟩
def dkwX3_until_0 : List UInt8 := [42, 16, 9, 5, 27, 182, 0, 234, 172]
abbrev dktX3_until_0 : List UInt8 := dkwX3_until_0 ++ []
theorem dksX3_until_0 : cX3_until.data.toList.drop 0 = dktX3_until_0 := by decide +kernel
theorem dX3_until_0 : decode cX3_until 0 = .ok (.aload_n 0, 1) := dk_42 (dk_at dksX3_until_0 0 rfl rfl)
theorem dX3_until_1 : decode cX3_until 1 = .ok (.bipush 9, 2) := dk_16 9 (dk_at dksX3_until_0 1 rfl rfl)
theorem dX3_until_3 : decode cX3_until 3 = .ok (.iconst 2, 1) := dk_5 (dk_at dksX3_until_0 3 rfl rfl)
theorem dX3_until_4 : decode cX3_until 4 = .ok (.iload_n 1, 1) := dk_27 (dk_at dksX3_until_0 4 rfl rfl)
theorem dX3_until_5 : decode cX3_until 5 = .ok (.invokevirtual 234, 3) := dk_182 0 234 (dk_at dksX3_until_0 5 rfl rfl)
theorem dX3_until_8 : decode cX3_until 8 = .ok (.ireturn, 1) := dk_172 (dk_at dksX3_until_0 8 rfl rfl)
abbrev cX3_soon : ByteArray := prog_13_method_56_code
def yX3_soon : MethodName := ⟨RX3, "soon", "(I)I"⟩
def dkwX3_soon_0 : List UInt8 := [42, 16, 10, 4, 27, 182, 0, 234, 172]
abbrev dktX3_soon_0 : List UInt8 := dkwX3_soon_0 ++ []
theorem dksX3_soon_0 : cX3_soon.data.toList.drop 0 = dktX3_soon_0 := by decide +kernel
theorem dX3_soon_0 : decode cX3_soon 0 = .ok (.aload_n 0, 1) := dk_42 (dk_at dksX3_soon_0 0 rfl rfl)
theorem dX3_soon_1 : decode cX3_soon 1 = .ok (.bipush 10, 2) := dk_16 10 (dk_at dksX3_soon_0 1 rfl rfl)
theorem dX3_soon_3 : decode cX3_soon 3 = .ok (.iconst 1, 1) := dk_4 (dk_at dksX3_soon_0 3 rfl rfl)
theorem dX3_soon_4 : decode cX3_soon 4 = .ok (.iload_n 1, 1) := dk_27 (dk_at dksX3_soon_0 4 rfl rfl)
theorem dX3_soon_5 : decode cX3_soon 5 = .ok (.invokevirtual 234, 3) := dk_182 0 234 (dk_at dksX3_soon_0 5 rfl rfl)
theorem dX3_soon_8 : decode cX3_soon 8 = .ok (.ireturn, 1) := dk_172 (dk_at dksX3_soon_0 8 rfl rfl)
abbrev cX3_many : ByteArray := prog_13_method_57_code
def yX3_many : MethodName := ⟨RX3, "many", "(II)I"⟩
def dkwX3_many_2 : List UInt8 := [172]
abbrev dktX3_many_2 : List UInt8 := dkwX3_many_2 ++ []
def dkwX3_many_1 : List UInt8 := [4, 182, 0, 219, 4, 182, 0, 181, 153, 0, 15, 42, 16, 11, 4, 27, 28, 182, 0, 222, 167, 0, 4, 3]
abbrev dktX3_many_1 : List UInt8 := dkwX3_many_1 ++ dktX3_many_2
def dkwX3_many_0 : List UInt8 := [42, 27, 4, 16, 80, 184, 0, 87, 153, 0, 14, 28, 184, 0, 225, 153, 0, 7, 4, 167, 0, 4, 3, 42]
abbrev dktX3_many_0 : List UInt8 := dkwX3_many_0 ++ dktX3_many_1
theorem dksX3_many_0 : cX3_many.data.toList.drop 0 = dktX3_many_0 := by decide +kernel
theorem dksX3_many_1 : cX3_many.data.toList.drop 24 = dktX3_many_1 := dk_seg dksX3_many_0 24 rfl rfl
theorem dksX3_many_2 : cX3_many.data.toList.drop 48 = dktX3_many_2 := dk_seg dksX3_many_1 24 rfl rfl
theorem dX3_many_0 : decode cX3_many 0 = .ok (.aload_n 0, 1) := dk_42 (dk_at dksX3_many_0 0 rfl rfl)
theorem dX3_many_1 : decode cX3_many 1 = .ok (.iload_n 1, 1) := dk_27 (dk_at dksX3_many_0 1 rfl rfl)
theorem dX3_many_2 : decode cX3_many 2 = .ok (.iconst 1, 1) := dk_4 (dk_at dksX3_many_0 2 rfl rfl)
theorem dX3_many_3 : decode cX3_many 3 = .ok (.bipush 80, 2) := dk_16 80 (dk_at dksX3_many_0 3 rfl rfl)
theorem dX3_many_5 : decode cX3_many 5 = .ok (.invokestatic 87, 3) := dk_184 0 87 (dk_at dksX3_many_0 5 rfl rfl)
theorem dX3_many_8 : decode cX3_many 8 = .ok (.ifCond .eq 14, 3) := dk_153 0 14 (dk_at dksX3_many_0 8 rfl rfl)
theorem dX3_many_11 : decode cX3_many 11 = .ok (.iload_n 2, 1) := dk_28 (dk_at dksX3_many_0 11 rfl rfl)
theorem dX3_many_12 : decode cX3_many 12 = .ok (.invokestatic 225, 3) := dk_184 0 225 (dk_at dksX3_many_0 12 rfl rfl)
theorem dX3_many_15 : decode cX3_many 15 = .ok (.ifCond .eq 7, 3) := dk_153 0 7 (dk_at dksX3_many_0 15 rfl rfl)
theorem dX3_many_18 : decode cX3_many 18 = .ok (.iconst 1, 1) := dk_4 (dk_at dksX3_many_0 18 rfl rfl)
theorem dX3_many_19 : decode cX3_many 19 = .ok (.goto 4, 3) := dk_167 0 4 (dk_at dksX3_many_0 19 rfl rfl)
theorem dX3_many_22 : decode cX3_many 22 = .ok (.iconst 0, 1) := dk_3 (dk_at dksX3_many_0 22 rfl rfl)
theorem dX3_many_23 : decode cX3_many 23 = .ok (.aload_n 0, 1) := dk_42 (dk_at dksX3_many_0 23 rfl rfl)
theorem dX3_many_24 : decode cX3_many 24 = .ok (.iconst 1, 1) := dk_4 (dk_at dksX3_many_1 0 rfl rfl)
theorem dX3_many_25 : decode cX3_many 25 = .ok (.invokevirtual 219, 3) := dk_182 0 219 (dk_at dksX3_many_1 1 rfl rfl)
theorem dX3_many_28 : decode cX3_many 28 = .ok (.iconst 1, 1) := dk_4 (dk_at dksX3_many_1 4 rfl rfl)
theorem dX3_many_29 : decode cX3_many 29 = .ok (.invokevirtual 181, 3) := dk_182 0 181 (dk_at dksX3_many_1 5 rfl rfl)
theorem dX3_many_32 : decode cX3_many 32 = .ok (.ifCond .eq 15, 3) := dk_153 0 15 (dk_at dksX3_many_1 8 rfl rfl)
theorem dX3_many_35 : decode cX3_many 35 = .ok (.aload_n 0, 1) := dk_42 (dk_at dksX3_many_1 11 rfl rfl)
theorem dX3_many_36 : decode cX3_many 36 = .ok (.bipush 11, 2) := dk_16 11 (dk_at dksX3_many_1 12 rfl rfl)
theorem dX3_many_38 : decode cX3_many 38 = .ok (.iconst 1, 1) := dk_4 (dk_at dksX3_many_1 14 rfl rfl)
theorem dX3_many_39 : decode cX3_many 39 = .ok (.iload_n 1, 1) := dk_27 (dk_at dksX3_many_1 15 rfl rfl)
theorem dX3_many_40 : decode cX3_many 40 = .ok (.iload_n 2, 1) := dk_28 (dk_at dksX3_many_1 16 rfl rfl)
theorem dX3_many_41 : decode cX3_many 41 = .ok (.invokevirtual 222, 3) := dk_182 0 222 (dk_at dksX3_many_1 17 rfl rfl)
theorem dX3_many_44 : decode cX3_many 44 = .ok (.goto 4, 3) := dk_167 0 4 (dk_at dksX3_many_1 20 rfl rfl)
theorem dX3_many_47 : decode cX3_many 47 = .ok (.iconst 0, 1) := dk_3 (dk_at dksX3_many_1 23 rfl rfl)
theorem dX3_many_48 : decode cX3_many 48 = .ok (.ireturn, 1) := dk_172 (dk_at dksX3_many_2 0 rfl rfl)
abbrev cX3_scrap : ByteArray := prog_13_method_58_code
def yX3_scrap : MethodName := ⟨RX3, "scrap", "()I"⟩
def dkwX3_scrap_0 : List UInt8 := [42, 180, 0, 216, 60, 42, 3, 181, 0, 216, 42, 3, 181, 0, 209, 42, 27, 182, 0, 237, 172]
abbrev dktX3_scrap_0 : List UInt8 := dkwX3_scrap_0 ++ []
theorem dksX3_scrap_0 : cX3_scrap.data.toList.drop 0 = dktX3_scrap_0 := by decide +kernel
theorem dX3_scrap_0 : decode cX3_scrap 0 = .ok (.aload_n 0, 1) := dk_42 (dk_at dksX3_scrap_0 0 rfl rfl)
theorem dX3_scrap_1 : decode cX3_scrap 1 = .ok (.getfield 216, 3) := dk_180 0 216 (dk_at dksX3_scrap_0 1 rfl rfl)
theorem dX3_scrap_4 : decode cX3_scrap 4 = .ok (.istore_n 1, 1) := dk_60 (dk_at dksX3_scrap_0 4 rfl rfl)
theorem dX3_scrap_5 : decode cX3_scrap 5 = .ok (.aload_n 0, 1) := dk_42 (dk_at dksX3_scrap_0 5 rfl rfl)
theorem dX3_scrap_6 : decode cX3_scrap 6 = .ok (.iconst 0, 1) := dk_3 (dk_at dksX3_scrap_0 6 rfl rfl)
theorem dX3_scrap_7 : decode cX3_scrap 7 = .ok (.putfield 216, 3) := dk_181 0 216 (dk_at dksX3_scrap_0 7 rfl rfl)
theorem dX3_scrap_10 : decode cX3_scrap 10 = .ok (.aload_n 0, 1) := dk_42 (dk_at dksX3_scrap_0 10 rfl rfl)
theorem dX3_scrap_11 : decode cX3_scrap 11 = .ok (.iconst 0, 1) := dk_3 (dk_at dksX3_scrap_0 11 rfl rfl)
theorem dX3_scrap_12 : decode cX3_scrap 12 = .ok (.putfield 209, 3) := dk_181 0 209 (dk_at dksX3_scrap_0 12 rfl rfl)
theorem dX3_scrap_15 : decode cX3_scrap 15 = .ok (.aload_n 0, 1) := dk_42 (dk_at dksX3_scrap_0 15 rfl rfl)
theorem dX3_scrap_16 : decode cX3_scrap 16 = .ok (.iload_n 1, 1) := dk_27 (dk_at dksX3_scrap_0 16 rfl rfl)
theorem dX3_scrap_17 : decode cX3_scrap 17 = .ok (.invokevirtual 237, 3) := dk_182 0 237 (dk_at dksX3_scrap_0 17 rfl rfl)
theorem dX3_scrap_20 : decode cX3_scrap 20 = .ok (.ireturn, 1) := dk_172 (dk_at dksX3_scrap_0 20 rfl rfl)
abbrev cX3_tells : ByteArray := prog_13_method_5_code
def yX3_tells : MethodName := ⟨RX3, "tells", "(I)I"⟩
def dkwX3_tells_0 : List UInt8 := [42, 3, 181, 0, 84, 27, 172]
abbrev dktX3_tells_0 : List UInt8 := dkwX3_tells_0 ++ []
theorem dksX3_tells_0 : cX3_tells.data.toList.drop 0 = dktX3_tells_0 := by decide +kernel
theorem dX3_tells_0 : decode cX3_tells 0 = .ok (.aload_n 0, 1) := dk_42 (dk_at dksX3_tells_0 0 rfl rfl)
theorem dX3_tells_1 : decode cX3_tells 1 = .ok (.iconst 0, 1) := dk_3 (dk_at dksX3_tells_0 1 rfl rfl)
theorem dX3_tells_2 : decode cX3_tells 2 = .ok (.putfield 84, 3) := dk_181 0 84 (dk_at dksX3_tells_0 2 rfl rfl)
theorem dX3_tells_5 : decode cX3_tells 5 = .ok (.iload_n 1, 1) := dk_27 (dk_at dksX3_tells_0 5 rfl rfl)
theorem dX3_tells_6 : decode cX3_tells 6 = .ok (.ireturn, 1) := dk_172 (dk_at dksX3_tells_0 6 rfl rfl)
abbrev cX3_watch : ByteArray := prog_13_method_59_code
def yX3_watch : MethodName := ⟨RX3, "watch", "(ZZ)I"⟩
def dkwX3_watch_8 : List UInt8 := [62, 42, 180, 0, 94, 4, 100, 172]
abbrev dktX3_watch_8 : List UInt8 := dkwX3_watch_8 ++ []
def dkwX3_watch_7 : List UInt8 := [181, 0, 209, 42, 89, 180, 0, 94, 4, 96, 181, 0, 94, 42, 42, 180, 0, 94, 4, 100, 3, 182, 0, 174]
abbrev dktX3_watch_7 : List UInt8 := dkwX3_watch_7 ++ dktX3_watch_8
def dkwX3_watch_6 : List UInt8 := [180, 0, 94, 28, 84, 42, 180, 0, 63, 42, 180, 0, 94, 3, 79, 42, 3, 181, 0, 216, 42, 3]
abbrev dktX3_watch_6 : List UInt8 := dkwX3_watch_6 ++ dktX3_watch_7
def dkwX3_watch_5 : List UInt8 := [180, 0, 94, 42, 180, 0, 209, 79, 42, 180, 0, 54, 42, 180, 0, 94, 27, 84, 42, 180, 0, 57, 42]
abbrev dktX3_watch_5 : List UInt8 := dkwX3_watch_5 ++ dktX3_watch_6
def dkwX3_watch_4 : List UInt8 := [180, 0, 51, 21, 4, 42, 180, 0, 51, 29, 46, 79, 132, 3, 1, 167, 255, 182, 42, 180, 0, 60, 42]
abbrev dktX3_watch_4 : List UInt8 := dkwX3_watch_4 ++ dktX3_watch_5
def dkwX3_watch_3 : List UInt8 := [21, 4, 42, 180, 0, 45, 29, 46, 79, 42, 180, 0, 48, 21, 4, 42, 180, 0, 48, 29, 46, 79, 42]
abbrev dktX3_watch_3 : List UInt8 := dkwX3_watch_3 ++ dktX3_watch_4
def dkwX3_watch_2 : List UInt8 := [184, 0, 148, 29, 96, 54, 4, 42, 180, 0, 42, 21, 4, 42, 180, 0, 42, 29, 46, 79, 42, 180, 0, 45]
abbrev dktX3_watch_2 : List UInt8 := dkwX3_watch_2 ++ dktX3_watch_3
def dkwX3_watch_1 : List UInt8 := [4, 182, 0, 181, 154, 0, 5, 3, 172, 3, 62, 29, 42, 180, 0, 209, 162, 0, 72, 42, 180, 0, 94]
abbrev dktX3_watch_1 : List UInt8 := dkwX3_watch_1 ++ dktX3_watch_2
def dkwX3_watch_0 : List UInt8 := [42, 42, 180, 0, 216, 4, 160, 0, 16, 42, 180, 0, 94, 16, 6, 162, 0, 7, 4, 167, 0, 4, 3, 4]
abbrev dktX3_watch_0 : List UInt8 := dkwX3_watch_0 ++ dktX3_watch_1
theorem dksX3_watch_0 : cX3_watch.data.toList.drop 0 = dktX3_watch_0 := by decide +kernel
theorem dksX3_watch_1 : cX3_watch.data.toList.drop 24 = dktX3_watch_1 := dk_seg dksX3_watch_0 24 rfl rfl
theorem dksX3_watch_2 : cX3_watch.data.toList.drop 47 = dktX3_watch_2 := dk_seg dksX3_watch_1 23 rfl rfl
theorem dksX3_watch_3 : cX3_watch.data.toList.drop 71 = dktX3_watch_3 := dk_seg dksX3_watch_2 24 rfl rfl
theorem dksX3_watch_4 : cX3_watch.data.toList.drop 94 = dktX3_watch_4 := dk_seg dksX3_watch_3 23 rfl rfl
theorem dksX3_watch_5 : cX3_watch.data.toList.drop 117 = dktX3_watch_5 := dk_seg dksX3_watch_4 23 rfl rfl
theorem dksX3_watch_6 : cX3_watch.data.toList.drop 140 = dktX3_watch_6 := dk_seg dksX3_watch_5 23 rfl rfl
theorem dksX3_watch_7 : cX3_watch.data.toList.drop 162 = dktX3_watch_7 := dk_seg dksX3_watch_6 22 rfl rfl
theorem dksX3_watch_8 : cX3_watch.data.toList.drop 186 = dktX3_watch_8 := dk_seg dksX3_watch_7 24 rfl rfl
theorem dX3_watch_0 : decode cX3_watch 0 = .ok (.aload_n 0, 1) := dk_42 (dk_at dksX3_watch_0 0 rfl rfl)
theorem dX3_watch_1 : decode cX3_watch 1 = .ok (.aload_n 0, 1) := dk_42 (dk_at dksX3_watch_0 1 rfl rfl)
theorem dX3_watch_2 : decode cX3_watch 2 = .ok (.getfield 216, 3) := dk_180 0 216 (dk_at dksX3_watch_0 2 rfl rfl)
theorem dX3_watch_5 : decode cX3_watch 5 = .ok (.iconst 1, 1) := dk_4 (dk_at dksX3_watch_0 5 rfl rfl)
theorem dX3_watch_6 : decode cX3_watch 6 = .ok (.if_icmp .ne 16, 3) := dk_160 0 16 (dk_at dksX3_watch_0 6 rfl rfl)
theorem dX3_watch_9 : decode cX3_watch 9 = .ok (.aload_n 0, 1) := dk_42 (dk_at dksX3_watch_0 9 rfl rfl)
theorem dX3_watch_10 : decode cX3_watch 10 = .ok (.getfield 94, 3) := dk_180 0 94 (dk_at dksX3_watch_0 10 rfl rfl)
theorem dX3_watch_13 : decode cX3_watch 13 = .ok (.bipush 6, 2) := dk_16 6 (dk_at dksX3_watch_0 13 rfl rfl)
theorem dX3_watch_15 : decode cX3_watch 15 = .ok (.if_icmp .ge 7, 3) := dk_162 0 7 (dk_at dksX3_watch_0 15 rfl rfl)
theorem dX3_watch_18 : decode cX3_watch 18 = .ok (.iconst 1, 1) := dk_4 (dk_at dksX3_watch_0 18 rfl rfl)
theorem dX3_watch_19 : decode cX3_watch 19 = .ok (.goto 4, 3) := dk_167 0 4 (dk_at dksX3_watch_0 19 rfl rfl)
theorem dX3_watch_22 : decode cX3_watch 22 = .ok (.iconst 0, 1) := dk_3 (dk_at dksX3_watch_0 22 rfl rfl)
theorem dX3_watch_23 : decode cX3_watch 23 = .ok (.iconst 1, 1) := dk_4 (dk_at dksX3_watch_0 23 rfl rfl)
theorem dX3_watch_24 : decode cX3_watch 24 = .ok (.iconst 1, 1) := dk_4 (dk_at dksX3_watch_1 0 rfl rfl)
theorem dX3_watch_25 : decode cX3_watch 25 = .ok (.invokevirtual 181, 3) := dk_182 0 181 (dk_at dksX3_watch_1 1 rfl rfl)
theorem dX3_watch_28 : decode cX3_watch 28 = .ok (.ifCond .ne 5, 3) := dk_154 0 5 (dk_at dksX3_watch_1 4 rfl rfl)
theorem dX3_watch_31 : decode cX3_watch 31 = .ok (.iconst 0, 1) := dk_3 (dk_at dksX3_watch_1 7 rfl rfl)
theorem dX3_watch_32 : decode cX3_watch 32 = .ok (.ireturn, 1) := dk_172 (dk_at dksX3_watch_1 8 rfl rfl)
theorem dX3_watch_33 : decode cX3_watch 33 = .ok (.iconst 0, 1) := dk_3 (dk_at dksX3_watch_1 9 rfl rfl)
theorem dX3_watch_34 : decode cX3_watch 34 = .ok (.istore_n 3, 1) := dk_62 (dk_at dksX3_watch_1 10 rfl rfl)
theorem dX3_watch_35 : decode cX3_watch 35 = .ok (.iload_n 3, 1) := dk_29 (dk_at dksX3_watch_1 11 rfl rfl)
theorem dX3_watch_36 : decode cX3_watch 36 = .ok (.aload_n 0, 1) := dk_42 (dk_at dksX3_watch_1 12 rfl rfl)
theorem dX3_watch_37 : decode cX3_watch 37 = .ok (.getfield 209, 3) := dk_180 0 209 (dk_at dksX3_watch_1 13 rfl rfl)
theorem dX3_watch_40 : decode cX3_watch 40 = .ok (.if_icmp .ge 72, 3) := dk_162 0 72 (dk_at dksX3_watch_1 16 rfl rfl)
theorem dX3_watch_43 : decode cX3_watch 43 = .ok (.aload_n 0, 1) := dk_42 (dk_at dksX3_watch_1 19 rfl rfl)
theorem dX3_watch_44 : decode cX3_watch 44 = .ok (.getfield 94, 3) := dk_180 0 94 (dk_at dksX3_watch_1 20 rfl rfl)
theorem dX3_watch_47 : decode cX3_watch 47 = .ok (.invokestatic 148, 3) := dk_184 0 148 (dk_at dksX3_watch_2 0 rfl rfl)
theorem dX3_watch_50 : decode cX3_watch 50 = .ok (.iload_n 3, 1) := dk_29 (dk_at dksX3_watch_2 3 rfl rfl)
theorem dX3_watch_51 : decode cX3_watch 51 = .ok (.iadd, 1) := dk_96 (dk_at dksX3_watch_2 4 rfl rfl)
theorem dX3_watch_52 : decode cX3_watch 52 = .ok (.istore 4, 2) := dk_54 4 (dk_at dksX3_watch_2 5 rfl rfl)
theorem dX3_watch_54 : decode cX3_watch 54 = .ok (.aload_n 0, 1) := dk_42 (dk_at dksX3_watch_2 7 rfl rfl)
theorem dX3_watch_55 : decode cX3_watch 55 = .ok (.getfield 42, 3) := dk_180 0 42 (dk_at dksX3_watch_2 8 rfl rfl)
theorem dX3_watch_58 : decode cX3_watch 58 = .ok (.iload 4, 2) := dk_21 4 (dk_at dksX3_watch_2 11 rfl rfl)
theorem dX3_watch_60 : decode cX3_watch 60 = .ok (.aload_n 0, 1) := dk_42 (dk_at dksX3_watch_2 13 rfl rfl)
theorem dX3_watch_61 : decode cX3_watch 61 = .ok (.getfield 42, 3) := dk_180 0 42 (dk_at dksX3_watch_2 14 rfl rfl)
theorem dX3_watch_64 : decode cX3_watch 64 = .ok (.iload_n 3, 1) := dk_29 (dk_at dksX3_watch_2 17 rfl rfl)
theorem dX3_watch_65 : decode cX3_watch 65 = .ok (.iaload, 1) := dk_46 (dk_at dksX3_watch_2 18 rfl rfl)
theorem dX3_watch_66 : decode cX3_watch 66 = .ok (.iastore, 1) := dk_79 (dk_at dksX3_watch_2 19 rfl rfl)
theorem dX3_watch_67 : decode cX3_watch 67 = .ok (.aload_n 0, 1) := dk_42 (dk_at dksX3_watch_2 20 rfl rfl)
theorem dX3_watch_68 : decode cX3_watch 68 = .ok (.getfield 45, 3) := dk_180 0 45 (dk_at dksX3_watch_2 21 rfl rfl)
theorem dX3_watch_71 : decode cX3_watch 71 = .ok (.iload 4, 2) := dk_21 4 (dk_at dksX3_watch_3 0 rfl rfl)
theorem dX3_watch_73 : decode cX3_watch 73 = .ok (.aload_n 0, 1) := dk_42 (dk_at dksX3_watch_3 2 rfl rfl)
theorem dX3_watch_74 : decode cX3_watch 74 = .ok (.getfield 45, 3) := dk_180 0 45 (dk_at dksX3_watch_3 3 rfl rfl)
theorem dX3_watch_77 : decode cX3_watch 77 = .ok (.iload_n 3, 1) := dk_29 (dk_at dksX3_watch_3 6 rfl rfl)
theorem dX3_watch_78 : decode cX3_watch 78 = .ok (.iaload, 1) := dk_46 (dk_at dksX3_watch_3 7 rfl rfl)
theorem dX3_watch_79 : decode cX3_watch 79 = .ok (.iastore, 1) := dk_79 (dk_at dksX3_watch_3 8 rfl rfl)
theorem dX3_watch_80 : decode cX3_watch 80 = .ok (.aload_n 0, 1) := dk_42 (dk_at dksX3_watch_3 9 rfl rfl)
theorem dX3_watch_81 : decode cX3_watch 81 = .ok (.getfield 48, 3) := dk_180 0 48 (dk_at dksX3_watch_3 10 rfl rfl)
theorem dX3_watch_84 : decode cX3_watch 84 = .ok (.iload 4, 2) := dk_21 4 (dk_at dksX3_watch_3 13 rfl rfl)
theorem dX3_watch_86 : decode cX3_watch 86 = .ok (.aload_n 0, 1) := dk_42 (dk_at dksX3_watch_3 15 rfl rfl)
theorem dX3_watch_87 : decode cX3_watch 87 = .ok (.getfield 48, 3) := dk_180 0 48 (dk_at dksX3_watch_3 16 rfl rfl)
theorem dX3_watch_90 : decode cX3_watch 90 = .ok (.iload_n 3, 1) := dk_29 (dk_at dksX3_watch_3 19 rfl rfl)
theorem dX3_watch_91 : decode cX3_watch 91 = .ok (.iaload, 1) := dk_46 (dk_at dksX3_watch_3 20 rfl rfl)
theorem dX3_watch_92 : decode cX3_watch 92 = .ok (.iastore, 1) := dk_79 (dk_at dksX3_watch_3 21 rfl rfl)
theorem dX3_watch_93 : decode cX3_watch 93 = .ok (.aload_n 0, 1) := dk_42 (dk_at dksX3_watch_3 22 rfl rfl)
theorem dX3_watch_94 : decode cX3_watch 94 = .ok (.getfield 51, 3) := dk_180 0 51 (dk_at dksX3_watch_4 0 rfl rfl)
theorem dX3_watch_97 : decode cX3_watch 97 = .ok (.iload 4, 2) := dk_21 4 (dk_at dksX3_watch_4 3 rfl rfl)
theorem dX3_watch_99 : decode cX3_watch 99 = .ok (.aload_n 0, 1) := dk_42 (dk_at dksX3_watch_4 5 rfl rfl)
theorem dX3_watch_100 : decode cX3_watch 100 = .ok (.getfield 51, 3) := dk_180 0 51 (dk_at dksX3_watch_4 6 rfl rfl)
theorem dX3_watch_103 : decode cX3_watch 103 = .ok (.iload_n 3, 1) := dk_29 (dk_at dksX3_watch_4 9 rfl rfl)
theorem dX3_watch_104 : decode cX3_watch 104 = .ok (.iaload, 1) := dk_46 (dk_at dksX3_watch_4 10 rfl rfl)
theorem dX3_watch_105 : decode cX3_watch 105 = .ok (.iastore, 1) := dk_79 (dk_at dksX3_watch_4 11 rfl rfl)
theorem dX3_watch_106 : decode cX3_watch 106 = .ok (.iinc 3 1, 3) := dk_132 3 1 (dk_at dksX3_watch_4 12 rfl rfl)
theorem dX3_watch_109 : decode cX3_watch 109 = .ok (.goto (-74), 3) := dk_167 255 182 (dk_at dksX3_watch_4 15 rfl rfl)
theorem dX3_watch_112 : decode cX3_watch 112 = .ok (.aload_n 0, 1) := dk_42 (dk_at dksX3_watch_4 18 rfl rfl)
theorem dX3_watch_113 : decode cX3_watch 113 = .ok (.getfield 60, 3) := dk_180 0 60 (dk_at dksX3_watch_4 19 rfl rfl)
theorem dX3_watch_116 : decode cX3_watch 116 = .ok (.aload_n 0, 1) := dk_42 (dk_at dksX3_watch_4 22 rfl rfl)
theorem dX3_watch_117 : decode cX3_watch 117 = .ok (.getfield 94, 3) := dk_180 0 94 (dk_at dksX3_watch_5 0 rfl rfl)
theorem dX3_watch_120 : decode cX3_watch 120 = .ok (.aload_n 0, 1) := dk_42 (dk_at dksX3_watch_5 3 rfl rfl)
theorem dX3_watch_121 : decode cX3_watch 121 = .ok (.getfield 209, 3) := dk_180 0 209 (dk_at dksX3_watch_5 4 rfl rfl)
theorem dX3_watch_124 : decode cX3_watch 124 = .ok (.iastore, 1) := dk_79 (dk_at dksX3_watch_5 7 rfl rfl)
theorem dX3_watch_125 : decode cX3_watch 125 = .ok (.aload_n 0, 1) := dk_42 (dk_at dksX3_watch_5 8 rfl rfl)
theorem dX3_watch_126 : decode cX3_watch 126 = .ok (.getfield 54, 3) := dk_180 0 54 (dk_at dksX3_watch_5 9 rfl rfl)
theorem dX3_watch_129 : decode cX3_watch 129 = .ok (.aload_n 0, 1) := dk_42 (dk_at dksX3_watch_5 12 rfl rfl)
theorem dX3_watch_130 : decode cX3_watch 130 = .ok (.getfield 94, 3) := dk_180 0 94 (dk_at dksX3_watch_5 13 rfl rfl)
theorem dX3_watch_133 : decode cX3_watch 133 = .ok (.iload_n 1, 1) := dk_27 (dk_at dksX3_watch_5 16 rfl rfl)
theorem dX3_watch_134 : decode cX3_watch 134 = .ok (.bastore, 1) := dk_84 (dk_at dksX3_watch_5 17 rfl rfl)
theorem dX3_watch_135 : decode cX3_watch 135 = .ok (.aload_n 0, 1) := dk_42 (dk_at dksX3_watch_5 18 rfl rfl)
theorem dX3_watch_136 : decode cX3_watch 136 = .ok (.getfield 57, 3) := dk_180 0 57 (dk_at dksX3_watch_5 19 rfl rfl)
theorem dX3_watch_139 : decode cX3_watch 139 = .ok (.aload_n 0, 1) := dk_42 (dk_at dksX3_watch_5 22 rfl rfl)
theorem dX3_watch_140 : decode cX3_watch 140 = .ok (.getfield 94, 3) := dk_180 0 94 (dk_at dksX3_watch_6 0 rfl rfl)
theorem dX3_watch_143 : decode cX3_watch 143 = .ok (.iload_n 2, 1) := dk_28 (dk_at dksX3_watch_6 3 rfl rfl)
theorem dX3_watch_144 : decode cX3_watch 144 = .ok (.bastore, 1) := dk_84 (dk_at dksX3_watch_6 4 rfl rfl)
theorem dX3_watch_145 : decode cX3_watch 145 = .ok (.aload_n 0, 1) := dk_42 (dk_at dksX3_watch_6 5 rfl rfl)
theorem dX3_watch_146 : decode cX3_watch 146 = .ok (.getfield 63, 3) := dk_180 0 63 (dk_at dksX3_watch_6 6 rfl rfl)
theorem dX3_watch_149 : decode cX3_watch 149 = .ok (.aload_n 0, 1) := dk_42 (dk_at dksX3_watch_6 9 rfl rfl)
theorem dX3_watch_150 : decode cX3_watch 150 = .ok (.getfield 94, 3) := dk_180 0 94 (dk_at dksX3_watch_6 10 rfl rfl)
theorem dX3_watch_153 : decode cX3_watch 153 = .ok (.iconst 0, 1) := dk_3 (dk_at dksX3_watch_6 13 rfl rfl)
theorem dX3_watch_154 : decode cX3_watch 154 = .ok (.iastore, 1) := dk_79 (dk_at dksX3_watch_6 14 rfl rfl)
theorem dX3_watch_155 : decode cX3_watch 155 = .ok (.aload_n 0, 1) := dk_42 (dk_at dksX3_watch_6 15 rfl rfl)
theorem dX3_watch_156 : decode cX3_watch 156 = .ok (.iconst 0, 1) := dk_3 (dk_at dksX3_watch_6 16 rfl rfl)
theorem dX3_watch_157 : decode cX3_watch 157 = .ok (.putfield 216, 3) := dk_181 0 216 (dk_at dksX3_watch_6 17 rfl rfl)
theorem dX3_watch_160 : decode cX3_watch 160 = .ok (.aload_n 0, 1) := dk_42 (dk_at dksX3_watch_6 20 rfl rfl)
theorem dX3_watch_161 : decode cX3_watch 161 = .ok (.iconst 0, 1) := dk_3 (dk_at dksX3_watch_6 21 rfl rfl)
theorem dX3_watch_162 : decode cX3_watch 162 = .ok (.putfield 209, 3) := dk_181 0 209 (dk_at dksX3_watch_7 0 rfl rfl)
theorem dX3_watch_165 : decode cX3_watch 165 = .ok (.aload_n 0, 1) := dk_42 (dk_at dksX3_watch_7 3 rfl rfl)
theorem dX3_watch_166 : decode cX3_watch 166 = .ok (.dup, 1) := dk_89 (dk_at dksX3_watch_7 4 rfl rfl)
theorem dX3_watch_167 : decode cX3_watch 167 = .ok (.getfield 94, 3) := dk_180 0 94 (dk_at dksX3_watch_7 5 rfl rfl)
theorem dX3_watch_170 : decode cX3_watch 170 = .ok (.iconst 1, 1) := dk_4 (dk_at dksX3_watch_7 8 rfl rfl)
theorem dX3_watch_171 : decode cX3_watch 171 = .ok (.iadd, 1) := dk_96 (dk_at dksX3_watch_7 9 rfl rfl)
theorem dX3_watch_172 : decode cX3_watch 172 = .ok (.putfield 94, 3) := dk_181 0 94 (dk_at dksX3_watch_7 10 rfl rfl)
theorem dX3_watch_175 : decode cX3_watch 175 = .ok (.aload_n 0, 1) := dk_42 (dk_at dksX3_watch_7 13 rfl rfl)
theorem dX3_watch_176 : decode cX3_watch 176 = .ok (.aload_n 0, 1) := dk_42 (dk_at dksX3_watch_7 14 rfl rfl)
theorem dX3_watch_177 : decode cX3_watch 177 = .ok (.getfield 94, 3) := dk_180 0 94 (dk_at dksX3_watch_7 15 rfl rfl)
theorem dX3_watch_180 : decode cX3_watch 180 = .ok (.iconst 1, 1) := dk_4 (dk_at dksX3_watch_7 18 rfl rfl)
theorem dX3_watch_181 : decode cX3_watch 181 = .ok (.isub, 1) := dk_100 (dk_at dksX3_watch_7 19 rfl rfl)
theorem dX3_watch_182 : decode cX3_watch 182 = .ok (.iconst 0, 1) := dk_3 (dk_at dksX3_watch_7 20 rfl rfl)
theorem dX3_watch_183 : decode cX3_watch 183 = .ok (.invokevirtual 174, 3) := dk_182 0 174 (dk_at dksX3_watch_7 21 rfl rfl)
theorem dX3_watch_186 : decode cX3_watch 186 = .ok (.istore_n 3, 1) := dk_62 (dk_at dksX3_watch_8 0 rfl rfl)
theorem dX3_watch_187 : decode cX3_watch 187 = .ok (.aload_n 0, 1) := dk_42 (dk_at dksX3_watch_8 1 rfl rfl)
theorem dX3_watch_188 : decode cX3_watch 188 = .ok (.getfield 94, 3) := dk_180 0 94 (dk_at dksX3_watch_8 2 rfl rfl)
theorem dX3_watch_191 : decode cX3_watch 191 = .ok (.iconst 1, 1) := dk_4 (dk_at dksX3_watch_8 5 rfl rfl)
theorem dX3_watch_192 : decode cX3_watch 192 = .ok (.isub, 1) := dk_100 (dk_at dksX3_watch_8 6 rfl rfl)
theorem dX3_watch_193 : decode cX3_watch 193 = .ok (.ireturn, 1) := dk_172 (dk_at dksX3_watch_8 7 rfl rfl)
abbrev cX3_events : ByteArray := prog_13_method_60_code
def yX3_events : MethodName := ⟨RX3, "events", "()I"⟩
def dkwX3_events_0 : List UInt8 := [42, 42, 180, 0, 91, 182, 0, 237, 172]
abbrev dktX3_events_0 : List UInt8 := dkwX3_events_0 ++ []
theorem dksX3_events_0 : cX3_events.data.toList.drop 0 = dktX3_events_0 := by decide +kernel
theorem dX3_events_0 : decode cX3_events 0 = .ok (.aload_n 0, 1) := dk_42 (dk_at dksX3_events_0 0 rfl rfl)
theorem dX3_events_1 : decode cX3_events 1 = .ok (.aload_n 0, 1) := dk_42 (dk_at dksX3_events_0 1 rfl rfl)
theorem dX3_events_2 : decode cX3_events 2 = .ok (.getfield 91, 3) := dk_180 0 91 (dk_at dksX3_events_0 2 rfl rfl)
theorem dX3_events_5 : decode cX3_events 5 = .ok (.invokevirtual 237, 3) := dk_182 0 237 (dk_at dksX3_events_0 5 rfl rfl)
theorem dX3_events_8 : decode cX3_events 8 = .ok (.ireturn, 1) := dk_172 (dk_at dksX3_events_0 8 rfl rfl)
abbrev cX3_dropped : ByteArray := prog_13_method_61_code
def yX3_dropped : MethodName := ⟨RX3, "dropped", "()I"⟩
def dkwX3_dropped_0 : List UInt8 := [42, 42, 180, 0, 206, 182, 0, 237, 172]
abbrev dktX3_dropped_0 : List UInt8 := dkwX3_dropped_0 ++ []
theorem dksX3_dropped_0 : cX3_dropped.data.toList.drop 0 = dktX3_dropped_0 := by decide +kernel
theorem dX3_dropped_0 : decode cX3_dropped 0 = .ok (.aload_n 0, 1) := dk_42 (dk_at dksX3_dropped_0 0 rfl rfl)
theorem dX3_dropped_1 : decode cX3_dropped 1 = .ok (.aload_n 0, 1) := dk_42 (dk_at dksX3_dropped_0 1 rfl rfl)
theorem dX3_dropped_2 : decode cX3_dropped 2 = .ok (.getfield 206, 3) := dk_180 0 206 (dk_at dksX3_dropped_0 2 rfl rfl)
theorem dX3_dropped_5 : decode cX3_dropped 5 = .ok (.invokevirtual 237, 3) := dk_182 0 237 (dk_at dksX3_dropped_0 5 rfl rfl)
theorem dX3_dropped_8 : decode cX3_dropped 8 = .ok (.ireturn, 1) := dk_172 (dk_at dksX3_dropped_0 8 rfl rfl)
abbrev cX3_present : ByteArray := prog_13_method_62_code
def yX3_present : MethodName := ⟨RX3, "present", "()I"⟩
def dkwX3_present_0 : List UInt8 := [42, 42, 180, 0, 101, 182, 0, 237, 172]
abbrev dktX3_present_0 : List UInt8 := dkwX3_present_0 ++ []
theorem dksX3_present_0 : cX3_present.data.toList.drop 0 = dktX3_present_0 := by decide +kernel
theorem dX3_present_0 : decode cX3_present 0 = .ok (.aload_n 0, 1) := dk_42 (dk_at dksX3_present_0 0 rfl rfl)
theorem dX3_present_1 : decode cX3_present 1 = .ok (.aload_n 0, 1) := dk_42 (dk_at dksX3_present_0 1 rfl rfl)
theorem dX3_present_2 : decode cX3_present 2 = .ok (.getfield 101, 3) := dk_180 0 101 (dk_at dksX3_present_0 2 rfl rfl)
theorem dX3_present_5 : decode cX3_present 5 = .ok (.invokevirtual 237, 3) := dk_182 0 237 (dk_at dksX3_present_0 5 rfl rfl)
theorem dX3_present_8 : decode cX3_present 8 = .ok (.ireturn, 1) := dk_172 (dk_at dksX3_present_0 8 rfl rfl)
abbrev cX3_eventAt : ByteArray := prog_13_method_63_code
def yX3_eventAt : MethodName := ⟨RX3, "eventAt", "(I)I"⟩
def dkwX3_eventAt_1 : List UInt8 := [172]
abbrev dktX3_eventAt_1 : List UInt8 := dkwX3_eventAt_1 ++ []
def dkwX3_eventAt_0 : List UInt8 := [42, 42, 27, 182, 0, 240, 4, 4, 182, 0, 181, 153, 0, 12, 42, 180, 0, 36, 27, 46, 167, 0, 4, 3]
abbrev dktX3_eventAt_0 : List UInt8 := dkwX3_eventAt_0 ++ dktX3_eventAt_1
theorem dksX3_eventAt_0 : cX3_eventAt.data.toList.drop 0 = dktX3_eventAt_0 := by decide +kernel
theorem dksX3_eventAt_1 : cX3_eventAt.data.toList.drop 24 = dktX3_eventAt_1 := dk_seg dksX3_eventAt_0 24 rfl rfl
theorem dX3_eventAt_0 : decode cX3_eventAt 0 = .ok (.aload_n 0, 1) := dk_42 (dk_at dksX3_eventAt_0 0 rfl rfl)
theorem dX3_eventAt_1 : decode cX3_eventAt 1 = .ok (.aload_n 0, 1) := dk_42 (dk_at dksX3_eventAt_0 1 rfl rfl)
theorem dX3_eventAt_2 : decode cX3_eventAt 2 = .ok (.iload_n 1, 1) := dk_27 (dk_at dksX3_eventAt_0 2 rfl rfl)
theorem dX3_eventAt_3 : decode cX3_eventAt 3 = .ok (.invokevirtual 240, 3) := dk_182 0 240 (dk_at dksX3_eventAt_0 3 rfl rfl)
theorem dX3_eventAt_6 : decode cX3_eventAt 6 = .ok (.iconst 1, 1) := dk_4 (dk_at dksX3_eventAt_0 6 rfl rfl)
theorem dX3_eventAt_7 : decode cX3_eventAt 7 = .ok (.iconst 1, 1) := dk_4 (dk_at dksX3_eventAt_0 7 rfl rfl)
theorem dX3_eventAt_8 : decode cX3_eventAt 8 = .ok (.invokevirtual 181, 3) := dk_182 0 181 (dk_at dksX3_eventAt_0 8 rfl rfl)
theorem dX3_eventAt_11 : decode cX3_eventAt 11 = .ok (.ifCond .eq 12, 3) := dk_153 0 12 (dk_at dksX3_eventAt_0 11 rfl rfl)
theorem dX3_eventAt_14 : decode cX3_eventAt 14 = .ok (.aload_n 0, 1) := dk_42 (dk_at dksX3_eventAt_0 14 rfl rfl)
theorem dX3_eventAt_15 : decode cX3_eventAt 15 = .ok (.getfield 36, 3) := dk_180 0 36 (dk_at dksX3_eventAt_0 15 rfl rfl)
theorem dX3_eventAt_18 : decode cX3_eventAt 18 = .ok (.iload_n 1, 1) := dk_27 (dk_at dksX3_eventAt_0 18 rfl rfl)
theorem dX3_eventAt_19 : decode cX3_eventAt 19 = .ok (.iaload, 1) := dk_46 (dk_at dksX3_eventAt_0 19 rfl rfl)
theorem dX3_eventAt_20 : decode cX3_eventAt 20 = .ok (.goto 4, 3) := dk_167 0 4 (dk_at dksX3_eventAt_0 20 rfl rfl)
theorem dX3_eventAt_23 : decode cX3_eventAt 23 = .ok (.iconst 0, 1) := dk_3 (dk_at dksX3_eventAt_0 23 rfl rfl)
theorem dX3_eventAt_24 : decode cX3_eventAt 24 = .ok (.ireturn, 1) := dk_172 (dk_at dksX3_eventAt_1 0 rfl rfl)
abbrev cX3_isEvent : ByteArray := prog_13_method_9_code
def yX3_isEvent : MethodName := ⟨RX3, "isEvent", "(I)Z"⟩
def dkwX3_isEvent_0 : List UInt8 := [27, 3, 42, 180, 0, 91, 4, 100, 184, 0, 87, 172]
abbrev dktX3_isEvent_0 : List UInt8 := dkwX3_isEvent_0 ++ []
theorem dksX3_isEvent_0 : cX3_isEvent.data.toList.drop 0 = dktX3_isEvent_0 := by decide +kernel
theorem dX3_isEvent_0 : decode cX3_isEvent 0 = .ok (.iload_n 1, 1) := dk_27 (dk_at dksX3_isEvent_0 0 rfl rfl)
theorem dX3_isEvent_1 : decode cX3_isEvent 1 = .ok (.iconst 0, 1) := dk_3 (dk_at dksX3_isEvent_0 1 rfl rfl)
theorem dX3_isEvent_2 : decode cX3_isEvent 2 = .ok (.aload_n 0, 1) := dk_42 (dk_at dksX3_isEvent_0 2 rfl rfl)
theorem dX3_isEvent_3 : decode cX3_isEvent 3 = .ok (.getfield 91, 3) := dk_180 0 91 (dk_at dksX3_isEvent_0 3 rfl rfl)
theorem dX3_isEvent_6 : decode cX3_isEvent 6 = .ok (.iconst 1, 1) := dk_4 (dk_at dksX3_isEvent_0 6 rfl rfl)
theorem dX3_isEvent_7 : decode cX3_isEvent 7 = .ok (.isub, 1) := dk_100 (dk_at dksX3_isEvent_0 7 rfl rfl)
theorem dX3_isEvent_8 : decode cX3_isEvent 8 = .ok (.invokestatic 87, 3) := dk_184 0 87 (dk_at dksX3_isEvent_0 8 rfl rfl)
theorem dX3_isEvent_11 : decode cX3_isEvent 11 = .ok (.ireturn, 1) := dk_172 (dk_at dksX3_isEvent_0 11 rfl rfl)
abbrev cX3_timeOf : ByteArray := prog_13_method_64_code
def yX3_timeOf : MethodName := ⟨RX3, "timeOf", "(I)I"⟩
def dkwX3_timeOf_1 : List UInt8 := [172]
abbrev dktX3_timeOf_1 : List UInt8 := dkwX3_timeOf_1 ++ []
def dkwX3_timeOf_0 : List UInt8 := [42, 42, 27, 182, 0, 240, 4, 4, 182, 0, 181, 153, 0, 12, 42, 180, 0, 20, 27, 46, 167, 0, 4, 3]
abbrev dktX3_timeOf_0 : List UInt8 := dkwX3_timeOf_0 ++ dktX3_timeOf_1
theorem dksX3_timeOf_0 : cX3_timeOf.data.toList.drop 0 = dktX3_timeOf_0 := by decide +kernel
theorem dksX3_timeOf_1 : cX3_timeOf.data.toList.drop 24 = dktX3_timeOf_1 := dk_seg dksX3_timeOf_0 24 rfl rfl
theorem dX3_timeOf_0 : decode cX3_timeOf 0 = .ok (.aload_n 0, 1) := dk_42 (dk_at dksX3_timeOf_0 0 rfl rfl)
theorem dX3_timeOf_1 : decode cX3_timeOf 1 = .ok (.aload_n 0, 1) := dk_42 (dk_at dksX3_timeOf_0 1 rfl rfl)
theorem dX3_timeOf_2 : decode cX3_timeOf 2 = .ok (.iload_n 1, 1) := dk_27 (dk_at dksX3_timeOf_0 2 rfl rfl)
theorem dX3_timeOf_3 : decode cX3_timeOf 3 = .ok (.invokevirtual 240, 3) := dk_182 0 240 (dk_at dksX3_timeOf_0 3 rfl rfl)
theorem dX3_timeOf_6 : decode cX3_timeOf 6 = .ok (.iconst 1, 1) := dk_4 (dk_at dksX3_timeOf_0 6 rfl rfl)
theorem dX3_timeOf_7 : decode cX3_timeOf 7 = .ok (.iconst 1, 1) := dk_4 (dk_at dksX3_timeOf_0 7 rfl rfl)
theorem dX3_timeOf_8 : decode cX3_timeOf 8 = .ok (.invokevirtual 181, 3) := dk_182 0 181 (dk_at dksX3_timeOf_0 8 rfl rfl)
theorem dX3_timeOf_11 : decode cX3_timeOf 11 = .ok (.ifCond .eq 12, 3) := dk_153 0 12 (dk_at dksX3_timeOf_0 11 rfl rfl)
theorem dX3_timeOf_14 : decode cX3_timeOf 14 = .ok (.aload_n 0, 1) := dk_42 (dk_at dksX3_timeOf_0 14 rfl rfl)
theorem dX3_timeOf_15 : decode cX3_timeOf 15 = .ok (.getfield 20, 3) := dk_180 0 20 (dk_at dksX3_timeOf_0 15 rfl rfl)
theorem dX3_timeOf_18 : decode cX3_timeOf 18 = .ok (.iload_n 1, 1) := dk_27 (dk_at dksX3_timeOf_0 18 rfl rfl)
theorem dX3_timeOf_19 : decode cX3_timeOf 19 = .ok (.iaload, 1) := dk_46 (dk_at dksX3_timeOf_0 19 rfl rfl)
theorem dX3_timeOf_20 : decode cX3_timeOf 20 = .ok (.goto 4, 3) := dk_167 0 4 (dk_at dksX3_timeOf_0 20 rfl rfl)
theorem dX3_timeOf_23 : decode cX3_timeOf 23 = .ok (.iconst 0, 1) := dk_3 (dk_at dksX3_timeOf_0 23 rfl rfl)
theorem dX3_timeOf_24 : decode cX3_timeOf 24 = .ok (.ireturn, 1) := dk_172 (dk_at dksX3_timeOf_1 0 rfl rfl)
abbrev cX3_isLate : ByteArray := prog_13_method_65_code
def yX3_isLate : MethodName := ⟨RX3, "isLate", "(I)Z"⟩
def dkwX3_isLate_1 : List UInt8 := [167, 0, 4, 3, 172]
abbrev dktX3_isLate_1 : List UInt8 := dkwX3_isLate_1 ++ []
def dkwX3_isLate_0 : List UInt8 := [42, 42, 27, 182, 0, 240, 4, 4, 182, 0, 181, 153, 0, 16, 42, 180, 0, 32, 27, 51, 153, 0, 7, 4]
abbrev dktX3_isLate_0 : List UInt8 := dkwX3_isLate_0 ++ dktX3_isLate_1
theorem dksX3_isLate_0 : cX3_isLate.data.toList.drop 0 = dktX3_isLate_0 := by decide +kernel
theorem dksX3_isLate_1 : cX3_isLate.data.toList.drop 24 = dktX3_isLate_1 := dk_seg dksX3_isLate_0 24 rfl rfl
theorem dX3_isLate_0 : decode cX3_isLate 0 = .ok (.aload_n 0, 1) := dk_42 (dk_at dksX3_isLate_0 0 rfl rfl)
theorem dX3_isLate_1 : decode cX3_isLate 1 = .ok (.aload_n 0, 1) := dk_42 (dk_at dksX3_isLate_0 1 rfl rfl)
theorem dX3_isLate_2 : decode cX3_isLate 2 = .ok (.iload_n 1, 1) := dk_27 (dk_at dksX3_isLate_0 2 rfl rfl)
theorem dX3_isLate_3 : decode cX3_isLate 3 = .ok (.invokevirtual 240, 3) := dk_182 0 240 (dk_at dksX3_isLate_0 3 rfl rfl)
theorem dX3_isLate_6 : decode cX3_isLate 6 = .ok (.iconst 1, 1) := dk_4 (dk_at dksX3_isLate_0 6 rfl rfl)
theorem dX3_isLate_7 : decode cX3_isLate 7 = .ok (.iconst 1, 1) := dk_4 (dk_at dksX3_isLate_0 7 rfl rfl)
theorem dX3_isLate_8 : decode cX3_isLate 8 = .ok (.invokevirtual 181, 3) := dk_182 0 181 (dk_at dksX3_isLate_0 8 rfl rfl)
theorem dX3_isLate_11 : decode cX3_isLate 11 = .ok (.ifCond .eq 16, 3) := dk_153 0 16 (dk_at dksX3_isLate_0 11 rfl rfl)
theorem dX3_isLate_14 : decode cX3_isLate 14 = .ok (.aload_n 0, 1) := dk_42 (dk_at dksX3_isLate_0 14 rfl rfl)
theorem dX3_isLate_15 : decode cX3_isLate 15 = .ok (.getfield 32, 3) := dk_180 0 32 (dk_at dksX3_isLate_0 15 rfl rfl)
theorem dX3_isLate_18 : decode cX3_isLate 18 = .ok (.iload_n 1, 1) := dk_27 (dk_at dksX3_isLate_0 18 rfl rfl)
theorem dX3_isLate_19 : decode cX3_isLate 19 = .ok (.baload, 1) := dk_51 (dk_at dksX3_isLate_0 19 rfl rfl)
theorem dX3_isLate_20 : decode cX3_isLate 20 = .ok (.ifCond .eq 7, 3) := dk_153 0 7 (dk_at dksX3_isLate_0 20 rfl rfl)
theorem dX3_isLate_23 : decode cX3_isLate 23 = .ok (.iconst 1, 1) := dk_4 (dk_at dksX3_isLate_0 23 rfl rfl)
theorem dX3_isLate_24 : decode cX3_isLate 24 = .ok (.goto 4, 3) := dk_167 0 4 (dk_at dksX3_isLate_1 0 rfl rfl)
theorem dX3_isLate_27 : decode cX3_isLate 27 = .ok (.iconst 0, 1) := dk_3 (dk_at dksX3_isLate_1 3 rfl rfl)
theorem dX3_isLate_28 : decode cX3_isLate 28 = .ok (.ireturn, 1) := dk_172 (dk_at dksX3_isLate_1 4 rfl rfl)
abbrev cX3_count : ByteArray := prog_13_method_67_code
def yX3_count : MethodName := ⟨RX3, "count", "(III)I"⟩
def dkwX3_count_2 : List UInt8 := [29, 184, 0, 87, 153, 0, 7, 4, 167, 0, 4, 3, 96, 54, 4, 132, 5, 1, 167, 255, 208, 21, 4, 172]
abbrev dktX3_count_2 : List UInt8 := dkwX3_count_2 ++ []
def dkwX3_count_1 : List UInt8 := [162, 0, 45, 21, 4, 42, 180, 0, 23, 21, 5, 46, 27, 160, 0, 22, 42, 180, 0, 20, 21, 5, 46, 28]
abbrev dktX3_count_1 : List UInt8 := dkwX3_count_1 ++ dktX3_count_2
def dkwX3_count_0 : List UInt8 := [42, 27, 28, 29, 182, 0, 243, 154, 0, 5, 3, 172, 3, 54, 4, 3, 54, 5, 21, 5, 42, 180, 0, 91]
abbrev dktX3_count_0 : List UInt8 := dkwX3_count_0 ++ dktX3_count_1
theorem dksX3_count_0 : cX3_count.data.toList.drop 0 = dktX3_count_0 := by decide +kernel
theorem dksX3_count_1 : cX3_count.data.toList.drop 24 = dktX3_count_1 := dk_seg dksX3_count_0 24 rfl rfl
theorem dksX3_count_2 : cX3_count.data.toList.drop 48 = dktX3_count_2 := dk_seg dksX3_count_1 24 rfl rfl
theorem dX3_count_0 : decode cX3_count 0 = .ok (.aload_n 0, 1) := dk_42 (dk_at dksX3_count_0 0 rfl rfl)
theorem dX3_count_1 : decode cX3_count 1 = .ok (.iload_n 1, 1) := dk_27 (dk_at dksX3_count_0 1 rfl rfl)
theorem dX3_count_2 : decode cX3_count 2 = .ok (.iload_n 2, 1) := dk_28 (dk_at dksX3_count_0 2 rfl rfl)
theorem dX3_count_3 : decode cX3_count 3 = .ok (.iload_n 3, 1) := dk_29 (dk_at dksX3_count_0 3 rfl rfl)
theorem dX3_count_4 : decode cX3_count 4 = .ok (.invokevirtual 243, 3) := dk_182 0 243 (dk_at dksX3_count_0 4 rfl rfl)
theorem dX3_count_7 : decode cX3_count 7 = .ok (.ifCond .ne 5, 3) := dk_154 0 5 (dk_at dksX3_count_0 7 rfl rfl)
theorem dX3_count_10 : decode cX3_count 10 = .ok (.iconst 0, 1) := dk_3 (dk_at dksX3_count_0 10 rfl rfl)
theorem dX3_count_11 : decode cX3_count 11 = .ok (.ireturn, 1) := dk_172 (dk_at dksX3_count_0 11 rfl rfl)
theorem dX3_count_12 : decode cX3_count 12 = .ok (.iconst 0, 1) := dk_3 (dk_at dksX3_count_0 12 rfl rfl)
theorem dX3_count_13 : decode cX3_count 13 = .ok (.istore 4, 2) := dk_54 4 (dk_at dksX3_count_0 13 rfl rfl)
theorem dX3_count_15 : decode cX3_count 15 = .ok (.iconst 0, 1) := dk_3 (dk_at dksX3_count_0 15 rfl rfl)
theorem dX3_count_16 : decode cX3_count 16 = .ok (.istore 5, 2) := dk_54 5 (dk_at dksX3_count_0 16 rfl rfl)
theorem dX3_count_18 : decode cX3_count 18 = .ok (.iload 5, 2) := dk_21 5 (dk_at dksX3_count_0 18 rfl rfl)
theorem dX3_count_20 : decode cX3_count 20 = .ok (.aload_n 0, 1) := dk_42 (dk_at dksX3_count_0 20 rfl rfl)
theorem dX3_count_21 : decode cX3_count 21 = .ok (.getfield 91, 3) := dk_180 0 91 (dk_at dksX3_count_0 21 rfl rfl)
theorem dX3_count_24 : decode cX3_count 24 = .ok (.if_icmp .ge 45, 3) := dk_162 0 45 (dk_at dksX3_count_1 0 rfl rfl)
theorem dX3_count_27 : decode cX3_count 27 = .ok (.iload 4, 2) := dk_21 4 (dk_at dksX3_count_1 3 rfl rfl)
theorem dX3_count_29 : decode cX3_count 29 = .ok (.aload_n 0, 1) := dk_42 (dk_at dksX3_count_1 5 rfl rfl)
theorem dX3_count_30 : decode cX3_count 30 = .ok (.getfield 23, 3) := dk_180 0 23 (dk_at dksX3_count_1 6 rfl rfl)
theorem dX3_count_33 : decode cX3_count 33 = .ok (.iload 5, 2) := dk_21 5 (dk_at dksX3_count_1 9 rfl rfl)
theorem dX3_count_35 : decode cX3_count 35 = .ok (.iaload, 1) := dk_46 (dk_at dksX3_count_1 11 rfl rfl)
theorem dX3_count_36 : decode cX3_count 36 = .ok (.iload_n 1, 1) := dk_27 (dk_at dksX3_count_1 12 rfl rfl)
theorem dX3_count_37 : decode cX3_count 37 = .ok (.if_icmp .ne 22, 3) := dk_160 0 22 (dk_at dksX3_count_1 13 rfl rfl)
theorem dX3_count_40 : decode cX3_count 40 = .ok (.aload_n 0, 1) := dk_42 (dk_at dksX3_count_1 16 rfl rfl)
theorem dX3_count_41 : decode cX3_count 41 = .ok (.getfield 20, 3) := dk_180 0 20 (dk_at dksX3_count_1 17 rfl rfl)
theorem dX3_count_44 : decode cX3_count 44 = .ok (.iload 5, 2) := dk_21 5 (dk_at dksX3_count_1 20 rfl rfl)
theorem dX3_count_46 : decode cX3_count 46 = .ok (.iaload, 1) := dk_46 (dk_at dksX3_count_1 22 rfl rfl)
theorem dX3_count_47 : decode cX3_count 47 = .ok (.iload_n 2, 1) := dk_28 (dk_at dksX3_count_1 23 rfl rfl)
theorem dX3_count_48 : decode cX3_count 48 = .ok (.iload_n 3, 1) := dk_29 (dk_at dksX3_count_2 0 rfl rfl)
theorem dX3_count_49 : decode cX3_count 49 = .ok (.invokestatic 87, 3) := dk_184 0 87 (dk_at dksX3_count_2 1 rfl rfl)
theorem dX3_count_52 : decode cX3_count 52 = .ok (.ifCond .eq 7, 3) := dk_153 0 7 (dk_at dksX3_count_2 4 rfl rfl)
theorem dX3_count_55 : decode cX3_count 55 = .ok (.iconst 1, 1) := dk_4 (dk_at dksX3_count_2 7 rfl rfl)
theorem dX3_count_56 : decode cX3_count 56 = .ok (.goto 4, 3) := dk_167 0 4 (dk_at dksX3_count_2 8 rfl rfl)
theorem dX3_count_59 : decode cX3_count 59 = .ok (.iconst 0, 1) := dk_3 (dk_at dksX3_count_2 11 rfl rfl)
theorem dX3_count_60 : decode cX3_count 60 = .ok (.iadd, 1) := dk_96 (dk_at dksX3_count_2 12 rfl rfl)
theorem dX3_count_61 : decode cX3_count 61 = .ok (.istore 4, 2) := dk_54 4 (dk_at dksX3_count_2 13 rfl rfl)
theorem dX3_count_63 : decode cX3_count 63 = .ok (.iinc 5 1, 3) := dk_132 5 1 (dk_at dksX3_count_2 15 rfl rfl)
theorem dX3_count_66 : decode cX3_count 66 = .ok (.goto (-48), 3) := dk_167 255 208 (dk_at dksX3_count_2 18 rfl rfl)
theorem dX3_count_69 : decode cX3_count 69 = .ok (.iload 4, 2) := dk_21 4 (dk_at dksX3_count_2 21 rfl rfl)
theorem dX3_count_71 : decode cX3_count 71 = .ok (.ireturn, 1) := dk_172 (dk_at dksX3_count_2 23 rfl rfl)
abbrev cX3_isStretch : ByteArray := prog_13_method_66_code
def yX3_isStretch : MethodName := ⟨RX3, "isStretch", "(III)Z"⟩
def dkwX3_isStretch_1 : List UInt8 := [184, 0, 87, 153, 0, 7, 4, 167, 0, 4, 3, 4, 4, 182, 0, 181, 172]
abbrev dktX3_isStretch_1 : List UInt8 := dkwX3_isStretch_1 ++ []
def dkwX3_isStretch_0 : List UInt8 := [42, 27, 184, 0, 185, 153, 0, 29, 28, 3, 17, 42, 248, 184, 0, 87, 153, 0, 18, 29, 28, 17, 42, 248]
abbrev dktX3_isStretch_0 : List UInt8 := dkwX3_isStretch_0 ++ dktX3_isStretch_1
theorem dksX3_isStretch_0 : cX3_isStretch.data.toList.drop 0 = dktX3_isStretch_0 := by decide +kernel
theorem dksX3_isStretch_1 : cX3_isStretch.data.toList.drop 24 = dktX3_isStretch_1 := dk_seg dksX3_isStretch_0 24 rfl rfl
theorem dX3_isStretch_0 : decode cX3_isStretch 0 = .ok (.aload_n 0, 1) := dk_42 (dk_at dksX3_isStretch_0 0 rfl rfl)
theorem dX3_isStretch_1 : decode cX3_isStretch 1 = .ok (.iload_n 1, 1) := dk_27 (dk_at dksX3_isStretch_0 1 rfl rfl)
theorem dX3_isStretch_2 : decode cX3_isStretch 2 = .ok (.invokestatic 185, 3) := dk_184 0 185 (dk_at dksX3_isStretch_0 2 rfl rfl)
theorem dX3_isStretch_5 : decode cX3_isStretch 5 = .ok (.ifCond .eq 29, 3) := dk_153 0 29 (dk_at dksX3_isStretch_0 5 rfl rfl)
theorem dX3_isStretch_8 : decode cX3_isStretch 8 = .ok (.iload_n 2, 1) := dk_28 (dk_at dksX3_isStretch_0 8 rfl rfl)
theorem dX3_isStretch_9 : decode cX3_isStretch 9 = .ok (.iconst 0, 1) := dk_3 (dk_at dksX3_isStretch_0 9 rfl rfl)
theorem dX3_isStretch_10 : decode cX3_isStretch 10 = .ok (.sipush 11000, 3) := dk_17 42 248 (dk_at dksX3_isStretch_0 10 rfl rfl)
theorem dX3_isStretch_13 : decode cX3_isStretch 13 = .ok (.invokestatic 87, 3) := dk_184 0 87 (dk_at dksX3_isStretch_0 13 rfl rfl)
theorem dX3_isStretch_16 : decode cX3_isStretch 16 = .ok (.ifCond .eq 18, 3) := dk_153 0 18 (dk_at dksX3_isStretch_0 16 rfl rfl)
theorem dX3_isStretch_19 : decode cX3_isStretch 19 = .ok (.iload_n 3, 1) := dk_29 (dk_at dksX3_isStretch_0 19 rfl rfl)
theorem dX3_isStretch_20 : decode cX3_isStretch 20 = .ok (.iload_n 2, 1) := dk_28 (dk_at dksX3_isStretch_0 20 rfl rfl)
theorem dX3_isStretch_21 : decode cX3_isStretch 21 = .ok (.sipush 11000, 3) := dk_17 42 248 (dk_at dksX3_isStretch_0 21 rfl rfl)
theorem dX3_isStretch_24 : decode cX3_isStretch 24 = .ok (.invokestatic 87, 3) := dk_184 0 87 (dk_at dksX3_isStretch_1 0 rfl rfl)
theorem dX3_isStretch_27 : decode cX3_isStretch 27 = .ok (.ifCond .eq 7, 3) := dk_153 0 7 (dk_at dksX3_isStretch_1 3 rfl rfl)
theorem dX3_isStretch_30 : decode cX3_isStretch 30 = .ok (.iconst 1, 1) := dk_4 (dk_at dksX3_isStretch_1 6 rfl rfl)
theorem dX3_isStretch_31 : decode cX3_isStretch 31 = .ok (.goto 4, 3) := dk_167 0 4 (dk_at dksX3_isStretch_1 7 rfl rfl)
theorem dX3_isStretch_34 : decode cX3_isStretch 34 = .ok (.iconst 0, 1) := dk_3 (dk_at dksX3_isStretch_1 10 rfl rfl)
theorem dX3_isStretch_35 : decode cX3_isStretch 35 = .ok (.iconst 1, 1) := dk_4 (dk_at dksX3_isStretch_1 11 rfl rfl)
theorem dX3_isStretch_36 : decode cX3_isStretch 36 = .ok (.iconst 1, 1) := dk_4 (dk_at dksX3_isStretch_1 12 rfl rfl)
theorem dX3_isStretch_37 : decode cX3_isStretch 37 = .ok (.invokevirtual 181, 3) := dk_182 0 181 (dk_at dksX3_isStretch_1 13 rfl rfl)
theorem dX3_isStretch_40 : decode cX3_isStretch 40 = .ok (.ireturn, 1) := dk_172 (dk_at dksX3_isStretch_1 16 rfl rfl)
abbrev cX3_greatest : ByteArray := prog_13_method_68_code
def yX3_greatest : MethodName := ⟨RX3, "greatest", "(III)I"⟩
def dkwX3_greatest_3 : List UInt8 := [21, 5, 46, 167, 0, 5, 21, 4, 54, 4, 132, 5, 1, 167, 255, 192, 21, 4, 172]
abbrev dktX3_greatest_3 : List UInt8 := dkwX3_greatest_3 ++ []
def dkwX3_greatest_2 : List UInt8 := [28, 29, 184, 0, 87, 153, 0, 25, 42, 180, 0, 29, 21, 5, 46, 21, 4, 164, 0, 13, 42, 180, 0, 29]
abbrev dktX3_greatest_2 : List UInt8 := dkwX3_greatest_2 ++ dktX3_greatest_3
def dkwX3_greatest_1 : List UInt8 := [180, 0, 91, 162, 0, 61, 42, 180, 0, 23, 21, 5, 46, 27, 160, 0, 40, 42, 180, 0, 20, 21, 5, 46]
abbrev dktX3_greatest_1 : List UInt8 := dkwX3_greatest_1 ++ dktX3_greatest_2
def dkwX3_greatest_0 : List UInt8 := [42, 27, 28, 29, 182, 0, 243, 154, 0, 5, 3, 172, 17, 252, 23, 54, 4, 3, 54, 5, 21, 5, 42]
abbrev dktX3_greatest_0 : List UInt8 := dkwX3_greatest_0 ++ dktX3_greatest_1
theorem dksX3_greatest_0 : cX3_greatest.data.toList.drop 0 = dktX3_greatest_0 := by decide +kernel
theorem dksX3_greatest_1 : cX3_greatest.data.toList.drop 23 = dktX3_greatest_1 := dk_seg dksX3_greatest_0 23 rfl rfl
theorem dksX3_greatest_2 : cX3_greatest.data.toList.drop 47 = dktX3_greatest_2 := dk_seg dksX3_greatest_1 24 rfl rfl
theorem dksX3_greatest_3 : cX3_greatest.data.toList.drop 71 = dktX3_greatest_3 := dk_seg dksX3_greatest_2 24 rfl rfl
theorem dX3_greatest_0 : decode cX3_greatest 0 = .ok (.aload_n 0, 1) := dk_42 (dk_at dksX3_greatest_0 0 rfl rfl)
theorem dX3_greatest_1 : decode cX3_greatest 1 = .ok (.iload_n 1, 1) := dk_27 (dk_at dksX3_greatest_0 1 rfl rfl)
theorem dX3_greatest_2 : decode cX3_greatest 2 = .ok (.iload_n 2, 1) := dk_28 (dk_at dksX3_greatest_0 2 rfl rfl)
theorem dX3_greatest_3 : decode cX3_greatest 3 = .ok (.iload_n 3, 1) := dk_29 (dk_at dksX3_greatest_0 3 rfl rfl)
theorem dX3_greatest_4 : decode cX3_greatest 4 = .ok (.invokevirtual 243, 3) := dk_182 0 243 (dk_at dksX3_greatest_0 4 rfl rfl)
theorem dX3_greatest_7 : decode cX3_greatest 7 = .ok (.ifCond .ne 5, 3) := dk_154 0 5 (dk_at dksX3_greatest_0 7 rfl rfl)
theorem dX3_greatest_10 : decode cX3_greatest 10 = .ok (.iconst 0, 1) := dk_3 (dk_at dksX3_greatest_0 10 rfl rfl)
theorem dX3_greatest_11 : decode cX3_greatest 11 = .ok (.ireturn, 1) := dk_172 (dk_at dksX3_greatest_0 11 rfl rfl)
theorem dX3_greatest_12 : decode cX3_greatest 12 = .ok (.sipush (-1001), 3) := dk_17 252 23 (dk_at dksX3_greatest_0 12 rfl rfl)
theorem dX3_greatest_15 : decode cX3_greatest 15 = .ok (.istore 4, 2) := dk_54 4 (dk_at dksX3_greatest_0 15 rfl rfl)
theorem dX3_greatest_17 : decode cX3_greatest 17 = .ok (.iconst 0, 1) := dk_3 (dk_at dksX3_greatest_0 17 rfl rfl)
theorem dX3_greatest_18 : decode cX3_greatest 18 = .ok (.istore 5, 2) := dk_54 5 (dk_at dksX3_greatest_0 18 rfl rfl)
theorem dX3_greatest_20 : decode cX3_greatest 20 = .ok (.iload 5, 2) := dk_21 5 (dk_at dksX3_greatest_0 20 rfl rfl)
theorem dX3_greatest_22 : decode cX3_greatest 22 = .ok (.aload_n 0, 1) := dk_42 (dk_at dksX3_greatest_0 22 rfl rfl)
theorem dX3_greatest_23 : decode cX3_greatest 23 = .ok (.getfield 91, 3) := dk_180 0 91 (dk_at dksX3_greatest_1 0 rfl rfl)
theorem dX3_greatest_26 : decode cX3_greatest 26 = .ok (.if_icmp .ge 61, 3) := dk_162 0 61 (dk_at dksX3_greatest_1 3 rfl rfl)
theorem dX3_greatest_29 : decode cX3_greatest 29 = .ok (.aload_n 0, 1) := dk_42 (dk_at dksX3_greatest_1 6 rfl rfl)
theorem dX3_greatest_30 : decode cX3_greatest 30 = .ok (.getfield 23, 3) := dk_180 0 23 (dk_at dksX3_greatest_1 7 rfl rfl)
theorem dX3_greatest_33 : decode cX3_greatest 33 = .ok (.iload 5, 2) := dk_21 5 (dk_at dksX3_greatest_1 10 rfl rfl)
theorem dX3_greatest_35 : decode cX3_greatest 35 = .ok (.iaload, 1) := dk_46 (dk_at dksX3_greatest_1 12 rfl rfl)
theorem dX3_greatest_36 : decode cX3_greatest 36 = .ok (.iload_n 1, 1) := dk_27 (dk_at dksX3_greatest_1 13 rfl rfl)
theorem dX3_greatest_37 : decode cX3_greatest 37 = .ok (.if_icmp .ne 40, 3) := dk_160 0 40 (dk_at dksX3_greatest_1 14 rfl rfl)
theorem dX3_greatest_40 : decode cX3_greatest 40 = .ok (.aload_n 0, 1) := dk_42 (dk_at dksX3_greatest_1 17 rfl rfl)
theorem dX3_greatest_41 : decode cX3_greatest 41 = .ok (.getfield 20, 3) := dk_180 0 20 (dk_at dksX3_greatest_1 18 rfl rfl)
theorem dX3_greatest_44 : decode cX3_greatest 44 = .ok (.iload 5, 2) := dk_21 5 (dk_at dksX3_greatest_1 21 rfl rfl)
theorem dX3_greatest_46 : decode cX3_greatest 46 = .ok (.iaload, 1) := dk_46 (dk_at dksX3_greatest_1 23 rfl rfl)
theorem dX3_greatest_47 : decode cX3_greatest 47 = .ok (.iload_n 2, 1) := dk_28 (dk_at dksX3_greatest_2 0 rfl rfl)
theorem dX3_greatest_48 : decode cX3_greatest 48 = .ok (.iload_n 3, 1) := dk_29 (dk_at dksX3_greatest_2 1 rfl rfl)
theorem dX3_greatest_49 : decode cX3_greatest 49 = .ok (.invokestatic 87, 3) := dk_184 0 87 (dk_at dksX3_greatest_2 2 rfl rfl)
theorem dX3_greatest_52 : decode cX3_greatest 52 = .ok (.ifCond .eq 25, 3) := dk_153 0 25 (dk_at dksX3_greatest_2 5 rfl rfl)
theorem dX3_greatest_55 : decode cX3_greatest 55 = .ok (.aload_n 0, 1) := dk_42 (dk_at dksX3_greatest_2 8 rfl rfl)
theorem dX3_greatest_56 : decode cX3_greatest 56 = .ok (.getfield 29, 3) := dk_180 0 29 (dk_at dksX3_greatest_2 9 rfl rfl)
theorem dX3_greatest_59 : decode cX3_greatest 59 = .ok (.iload 5, 2) := dk_21 5 (dk_at dksX3_greatest_2 12 rfl rfl)
theorem dX3_greatest_61 : decode cX3_greatest 61 = .ok (.iaload, 1) := dk_46 (dk_at dksX3_greatest_2 14 rfl rfl)
theorem dX3_greatest_62 : decode cX3_greatest 62 = .ok (.iload 4, 2) := dk_21 4 (dk_at dksX3_greatest_2 15 rfl rfl)
theorem dX3_greatest_64 : decode cX3_greatest 64 = .ok (.if_icmp .le 13, 3) := dk_164 0 13 (dk_at dksX3_greatest_2 17 rfl rfl)
theorem dX3_greatest_67 : decode cX3_greatest 67 = .ok (.aload_n 0, 1) := dk_42 (dk_at dksX3_greatest_2 20 rfl rfl)
theorem dX3_greatest_68 : decode cX3_greatest 68 = .ok (.getfield 29, 3) := dk_180 0 29 (dk_at dksX3_greatest_2 21 rfl rfl)
theorem dX3_greatest_71 : decode cX3_greatest 71 = .ok (.iload 5, 2) := dk_21 5 (dk_at dksX3_greatest_3 0 rfl rfl)
theorem dX3_greatest_73 : decode cX3_greatest 73 = .ok (.iaload, 1) := dk_46 (dk_at dksX3_greatest_3 2 rfl rfl)
theorem dX3_greatest_74 : decode cX3_greatest 74 = .ok (.goto 5, 3) := dk_167 0 5 (dk_at dksX3_greatest_3 3 rfl rfl)
theorem dX3_greatest_77 : decode cX3_greatest 77 = .ok (.iload 4, 2) := dk_21 4 (dk_at dksX3_greatest_3 6 rfl rfl)
theorem dX3_greatest_79 : decode cX3_greatest 79 = .ok (.istore 4, 2) := dk_54 4 (dk_at dksX3_greatest_3 8 rfl rfl)
theorem dX3_greatest_81 : decode cX3_greatest 81 = .ok (.iinc 5 1, 3) := dk_132 5 1 (dk_at dksX3_greatest_3 10 rfl rfl)
theorem dX3_greatest_84 : decode cX3_greatest 84 = .ok (.goto (-64), 3) := dk_167 255 192 (dk_at dksX3_greatest_3 13 rfl rfl)
theorem dX3_greatest_87 : decode cX3_greatest 87 = .ok (.iload 4, 2) := dk_21 4 (dk_at dksX3_greatest_3 16 rfl rfl)
theorem dX3_greatest_89 : decode cX3_greatest 89 = .ok (.ireturn, 1) := dk_172 (dk_at dksX3_greatest_3 18 rfl rfl)
abbrev cX3_greatestByAll : ByteArray := prog_13_method_69_code
def yX3_greatestByAll : MethodName := ⟨RX3, "greatestByAll", "(III)I"⟩
def dkwX3_greatestByAll_0 : List UInt8 := [42, 27, 28, 29, 182, 0, 246, 172]
abbrev dktX3_greatestByAll_0 : List UInt8 := dkwX3_greatestByAll_0 ++ []
theorem dksX3_greatestByAll_0 : cX3_greatestByAll.data.toList.drop 0 = dktX3_greatestByAll_0 := by decide +kernel
theorem dX3_greatestByAll_0 : decode cX3_greatestByAll 0 = .ok (.aload_n 0, 1) := dk_42 (dk_at dksX3_greatestByAll_0 0 rfl rfl)
theorem dX3_greatestByAll_1 : decode cX3_greatestByAll 1 = .ok (.iload_n 1, 1) := dk_27 (dk_at dksX3_greatestByAll_0 1 rfl rfl)
theorem dX3_greatestByAll_2 : decode cX3_greatestByAll 2 = .ok (.iload_n 2, 1) := dk_28 (dk_at dksX3_greatestByAll_0 2 rfl rfl)
theorem dX3_greatestByAll_3 : decode cX3_greatestByAll 3 = .ok (.iload_n 3, 1) := dk_29 (dk_at dksX3_greatestByAll_0 3 rfl rfl)
theorem dX3_greatestByAll_4 : decode cX3_greatestByAll 4 = .ok (.invokevirtual 246, 3) := dk_182 0 246 (dk_at dksX3_greatestByAll_0 4 rfl rfl)
theorem dX3_greatestByAll_7 : decode cX3_greatestByAll 7 = .ok (.ireturn, 1) := dk_172 (dk_at dksX3_greatestByAll_0 7 rfl rfl)
abbrev cX3_answer : ByteArray := prog_13_method_71_code
def yX3_answer : MethodName := ⟨RX3, "answer", "(II)I"⟩
def dkwX3_answer_1 : List UInt8 := [172]
abbrev dktX3_answer_1 : List UInt8 := dkwX3_answer_1 ++ []
def dkwX3_answer_0 : List UInt8 := [42, 27, 28, 182, 0, 252, 153, 0, 17, 42, 180, 0, 66, 16, 80, 27, 104, 28, 96, 46, 167, 0, 4, 3]
abbrev dktX3_answer_0 : List UInt8 := dkwX3_answer_0 ++ dktX3_answer_1
theorem dksX3_answer_0 : cX3_answer.data.toList.drop 0 = dktX3_answer_0 := by decide +kernel
theorem dksX3_answer_1 : cX3_answer.data.toList.drop 24 = dktX3_answer_1 := dk_seg dksX3_answer_0 24 rfl rfl
theorem dX3_answer_0 : decode cX3_answer 0 = .ok (.aload_n 0, 1) := dk_42 (dk_at dksX3_answer_0 0 rfl rfl)
theorem dX3_answer_1 : decode cX3_answer 1 = .ok (.iload_n 1, 1) := dk_27 (dk_at dksX3_answer_0 1 rfl rfl)
theorem dX3_answer_2 : decode cX3_answer 2 = .ok (.iload_n 2, 1) := dk_28 (dk_at dksX3_answer_0 2 rfl rfl)
theorem dX3_answer_3 : decode cX3_answer 3 = .ok (.invokevirtual 252, 3) := dk_182 0 252 (dk_at dksX3_answer_0 3 rfl rfl)
theorem dX3_answer_6 : decode cX3_answer 6 = .ok (.ifCond .eq 17, 3) := dk_153 0 17 (dk_at dksX3_answer_0 6 rfl rfl)
theorem dX3_answer_9 : decode cX3_answer 9 = .ok (.aload_n 0, 1) := dk_42 (dk_at dksX3_answer_0 9 rfl rfl)
theorem dX3_answer_10 : decode cX3_answer 10 = .ok (.getfield 66, 3) := dk_180 0 66 (dk_at dksX3_answer_0 10 rfl rfl)
theorem dX3_answer_13 : decode cX3_answer 13 = .ok (.bipush 80, 2) := dk_16 80 (dk_at dksX3_answer_0 13 rfl rfl)
theorem dX3_answer_15 : decode cX3_answer 15 = .ok (.iload_n 1, 1) := dk_27 (dk_at dksX3_answer_0 15 rfl rfl)
theorem dX3_answer_16 : decode cX3_answer 16 = .ok (.imul, 1) := dk_104 (dk_at dksX3_answer_0 16 rfl rfl)
theorem dX3_answer_17 : decode cX3_answer 17 = .ok (.iload_n 2, 1) := dk_28 (dk_at dksX3_answer_0 17 rfl rfl)
theorem dX3_answer_18 : decode cX3_answer 18 = .ok (.iadd, 1) := dk_96 (dk_at dksX3_answer_0 18 rfl rfl)
theorem dX3_answer_19 : decode cX3_answer 19 = .ok (.iaload, 1) := dk_46 (dk_at dksX3_answer_0 19 rfl rfl)
theorem dX3_answer_20 : decode cX3_answer 20 = .ok (.goto 4, 3) := dk_167 0 4 (dk_at dksX3_answer_0 20 rfl rfl)
theorem dX3_answer_23 : decode cX3_answer 23 = .ok (.iconst 0, 1) := dk_3 (dk_at dksX3_answer_0 23 rfl rfl)
theorem dX3_answer_24 : decode cX3_answer 24 = .ok (.ireturn, 1) := dk_172 (dk_at dksX3_answer_1 0 rfl rfl)
abbrev cX3_asks : ByteArray := prog_13_method_70_code
def yX3_asks : MethodName := ⟨RX3, "asks", "(II)Z"⟩
def dkwX3_asks_1 : List UInt8 := [182, 0, 181, 172]
abbrev dktX3_asks_1 : List UInt8 := dkwX3_asks_1 ++ []
def dkwX3_asks_0 : List UInt8 := [42, 42, 27, 182, 0, 249, 153, 0, 15, 42, 28, 182, 0, 240, 153, 0, 7, 4, 167, 0, 4, 3, 4, 4]
abbrev dktX3_asks_0 : List UInt8 := dkwX3_asks_0 ++ dktX3_asks_1
theorem dksX3_asks_0 : cX3_asks.data.toList.drop 0 = dktX3_asks_0 := by decide +kernel
theorem dksX3_asks_1 : cX3_asks.data.toList.drop 24 = dktX3_asks_1 := dk_seg dksX3_asks_0 24 rfl rfl
theorem dX3_asks_0 : decode cX3_asks 0 = .ok (.aload_n 0, 1) := dk_42 (dk_at dksX3_asks_0 0 rfl rfl)
theorem dX3_asks_1 : decode cX3_asks 1 = .ok (.aload_n 0, 1) := dk_42 (dk_at dksX3_asks_0 1 rfl rfl)
theorem dX3_asks_2 : decode cX3_asks 2 = .ok (.iload_n 1, 1) := dk_27 (dk_at dksX3_asks_0 2 rfl rfl)
theorem dX3_asks_3 : decode cX3_asks 3 = .ok (.invokevirtual 249, 3) := dk_182 0 249 (dk_at dksX3_asks_0 3 rfl rfl)
theorem dX3_asks_6 : decode cX3_asks 6 = .ok (.ifCond .eq 15, 3) := dk_153 0 15 (dk_at dksX3_asks_0 6 rfl rfl)
theorem dX3_asks_9 : decode cX3_asks 9 = .ok (.aload_n 0, 1) := dk_42 (dk_at dksX3_asks_0 9 rfl rfl)
theorem dX3_asks_10 : decode cX3_asks 10 = .ok (.iload_n 2, 1) := dk_28 (dk_at dksX3_asks_0 10 rfl rfl)
theorem dX3_asks_11 : decode cX3_asks 11 = .ok (.invokevirtual 240, 3) := dk_182 0 240 (dk_at dksX3_asks_0 11 rfl rfl)
theorem dX3_asks_14 : decode cX3_asks 14 = .ok (.ifCond .eq 7, 3) := dk_153 0 7 (dk_at dksX3_asks_0 14 rfl rfl)
theorem dX3_asks_17 : decode cX3_asks 17 = .ok (.iconst 1, 1) := dk_4 (dk_at dksX3_asks_0 17 rfl rfl)
theorem dX3_asks_18 : decode cX3_asks 18 = .ok (.goto 4, 3) := dk_167 0 4 (dk_at dksX3_asks_0 18 rfl rfl)
theorem dX3_asks_21 : decode cX3_asks 21 = .ok (.iconst 0, 1) := dk_3 (dk_at dksX3_asks_0 21 rfl rfl)
theorem dX3_asks_22 : decode cX3_asks 22 = .ok (.iconst 1, 1) := dk_4 (dk_at dksX3_asks_0 22 rfl rfl)
theorem dX3_asks_23 : decode cX3_asks 23 = .ok (.iconst 1, 1) := dk_4 (dk_at dksX3_asks_0 23 rfl rfl)
theorem dX3_asks_24 : decode cX3_asks 24 = .ok (.invokevirtual 181, 3) := dk_182 0 181 (dk_at dksX3_asks_1 0 rfl rfl)
theorem dX3_asks_27 : decode cX3_asks 27 = .ok (.ireturn, 1) := dk_172 (dk_at dksX3_asks_1 3 rfl rfl)
abbrev cX3_isMonitor : ByteArray := prog_13_method_10_code
def yX3_isMonitor : MethodName := ⟨RX3, "isMonitor", "(I)Z"⟩
def dkwX3_isMonitor_0 : List UInt8 := [27, 3, 42, 180, 0, 94, 4, 100, 184, 0, 87, 172]
abbrev dktX3_isMonitor_0 : List UInt8 := dkwX3_isMonitor_0 ++ []
theorem dksX3_isMonitor_0 : cX3_isMonitor.data.toList.drop 0 = dktX3_isMonitor_0 := by decide +kernel
theorem dX3_isMonitor_0 : decode cX3_isMonitor 0 = .ok (.iload_n 1, 1) := dk_27 (dk_at dksX3_isMonitor_0 0 rfl rfl)
theorem dX3_isMonitor_1 : decode cX3_isMonitor 1 = .ok (.iconst 0, 1) := dk_3 (dk_at dksX3_isMonitor_0 1 rfl rfl)
theorem dX3_isMonitor_2 : decode cX3_isMonitor 2 = .ok (.aload_n 0, 1) := dk_42 (dk_at dksX3_isMonitor_0 2 rfl rfl)
theorem dX3_isMonitor_3 : decode cX3_isMonitor 3 = .ok (.getfield 94, 3) := dk_180 0 94 (dk_at dksX3_isMonitor_0 3 rfl rfl)
theorem dX3_isMonitor_6 : decode cX3_isMonitor 6 = .ok (.iconst 1, 1) := dk_4 (dk_at dksX3_isMonitor_0 6 rfl rfl)
theorem dX3_isMonitor_7 : decode cX3_isMonitor 7 = .ok (.isub, 1) := dk_100 (dk_at dksX3_isMonitor_0 7 rfl rfl)
theorem dX3_isMonitor_8 : decode cX3_isMonitor 8 = .ok (.invokestatic 87, 3) := dk_184 0 87 (dk_at dksX3_isMonitor_0 8 rfl rfl)
theorem dX3_isMonitor_11 : decode cX3_isMonitor 11 = .ok (.ireturn, 1) := dk_172 (dk_at dksX3_isMonitor_0 11 rfl rfl)
abbrev cX3_answerAnew : ByteArray := prog_13_method_72_code
def yX3_answerAnew : MethodName := ⟨RX3, "answerAnew", "(II)I"⟩
def dkwX3_answerAnew_0 : List UInt8 := [42, 27, 28, 182, 0, 255, 172]
abbrev dktX3_answerAnew_0 : List UInt8 := dkwX3_answerAnew_0 ++ []
theorem dksX3_answerAnew_0 : cX3_answerAnew.data.toList.drop 0 = dktX3_answerAnew_0 := by decide +kernel
theorem dX3_answerAnew_0 : decode cX3_answerAnew 0 = .ok (.aload_n 0, 1) := dk_42 (dk_at dksX3_answerAnew_0 0 rfl rfl)
theorem dX3_answerAnew_1 : decode cX3_answerAnew 1 = .ok (.iload_n 1, 1) := dk_27 (dk_at dksX3_answerAnew_0 1 rfl rfl)
theorem dX3_answerAnew_2 : decode cX3_answerAnew 2 = .ok (.iload_n 2, 1) := dk_28 (dk_at dksX3_answerAnew_0 2 rfl rfl)
theorem dX3_answerAnew_3 : decode cX3_answerAnew 3 = .ok (.invokevirtual 255, 3) := dk_182 0 255 (dk_at dksX3_answerAnew_0 3 rfl rfl)
theorem dX3_answerAnew_6 : decode cX3_answerAnew 6 = .ok (.ireturn, 1) := dk_172 (dk_at dksX3_answerAnew_0 6 rfl rfl)
abbrev cX3_knownSince : ByteArray := prog_13_method_73_code
def yX3_knownSince : MethodName := ⟨RX3, "knownSince", "(II)I"⟩
def dkwX3_knownSince_1 : List UInt8 := [172]
abbrev dktX3_knownSince_1 : List UInt8 := dkwX3_knownSince_1 ++ []
def dkwX3_knownSince_0 : List UInt8 := [42, 27, 28, 182, 0, 252, 153, 0, 17, 42, 180, 0, 69, 16, 80, 27, 104, 28, 96, 46, 167, 0, 4, 3]
abbrev dktX3_knownSince_0 : List UInt8 := dkwX3_knownSince_0 ++ dktX3_knownSince_1
theorem dksX3_knownSince_0 : cX3_knownSince.data.toList.drop 0 = dktX3_knownSince_0 := by decide +kernel
theorem dksX3_knownSince_1 : cX3_knownSince.data.toList.drop 24 = dktX3_knownSince_1 := dk_seg dksX3_knownSince_0 24 rfl rfl
theorem dX3_knownSince_0 : decode cX3_knownSince 0 = .ok (.aload_n 0, 1) := dk_42 (dk_at dksX3_knownSince_0 0 rfl rfl)
theorem dX3_knownSince_1 : decode cX3_knownSince 1 = .ok (.iload_n 1, 1) := dk_27 (dk_at dksX3_knownSince_0 1 rfl rfl)
theorem dX3_knownSince_2 : decode cX3_knownSince 2 = .ok (.iload_n 2, 1) := dk_28 (dk_at dksX3_knownSince_0 2 rfl rfl)
theorem dX3_knownSince_3 : decode cX3_knownSince 3 = .ok (.invokevirtual 252, 3) := dk_182 0 252 (dk_at dksX3_knownSince_0 3 rfl rfl)
theorem dX3_knownSince_6 : decode cX3_knownSince 6 = .ok (.ifCond .eq 17, 3) := dk_153 0 17 (dk_at dksX3_knownSince_0 6 rfl rfl)
theorem dX3_knownSince_9 : decode cX3_knownSince 9 = .ok (.aload_n 0, 1) := dk_42 (dk_at dksX3_knownSince_0 9 rfl rfl)
theorem dX3_knownSince_10 : decode cX3_knownSince 10 = .ok (.getfield 69, 3) := dk_180 0 69 (dk_at dksX3_knownSince_0 10 rfl rfl)
theorem dX3_knownSince_13 : decode cX3_knownSince 13 = .ok (.bipush 80, 2) := dk_16 80 (dk_at dksX3_knownSince_0 13 rfl rfl)
theorem dX3_knownSince_15 : decode cX3_knownSince 15 = .ok (.iload_n 1, 1) := dk_27 (dk_at dksX3_knownSince_0 15 rfl rfl)
theorem dX3_knownSince_16 : decode cX3_knownSince 16 = .ok (.imul, 1) := dk_104 (dk_at dksX3_knownSince_0 16 rfl rfl)
theorem dX3_knownSince_17 : decode cX3_knownSince 17 = .ok (.iload_n 2, 1) := dk_28 (dk_at dksX3_knownSince_0 17 rfl rfl)
theorem dX3_knownSince_18 : decode cX3_knownSince 18 = .ok (.iadd, 1) := dk_96 (dk_at dksX3_knownSince_0 18 rfl rfl)
theorem dX3_knownSince_19 : decode cX3_knownSince 19 = .ok (.iaload, 1) := dk_46 (dk_at dksX3_knownSince_0 19 rfl rfl)
theorem dX3_knownSince_20 : decode cX3_knownSince 20 = .ok (.goto 4, 3) := dk_167 0 4 (dk_at dksX3_knownSince_0 20 rfl rfl)
theorem dX3_knownSince_23 : decode cX3_knownSince 23 = .ok (.iconst 0, 1) := dk_3 (dk_at dksX3_knownSince_0 23 rfl rfl)
theorem dX3_knownSince_24 : decode cX3_knownSince 24 = .ok (.ireturn, 1) := dk_172 (dk_at dksX3_knownSince_1 0 rfl rfl)
abbrev cX3_answers : ByteArray := prog_13_method_75_code
def yX3_answers : MethodName := ⟨RX3, "answers", "(II)I"⟩
def dkwX3_answers_2 : List UInt8 := [160, 0, 7, 4, 167, 0, 4, 3, 96, 62, 132, 4, 1, 167, 255, 220, 29, 172]
abbrev dktX3_answers_2 : List UInt8 := dkwX3_answers_2 ++ []
def dkwX3_answers_1 : List UInt8 := [21, 4, 42, 180, 0, 91, 162, 0, 33, 29, 42, 180, 0, 66, 16, 80, 27, 104, 21, 4, 96, 46, 28]
abbrev dktX3_answers_1 : List UInt8 := dkwX3_answers_1 ++ dktX3_answers_2
def dkwX3_answers_0 : List UInt8 := [42, 42, 27, 182, 0, 249, 28, 184, 1, 2, 4, 182, 0, 181, 154, 0, 5, 3, 172, 3, 62, 3, 54, 4]
abbrev dktX3_answers_0 : List UInt8 := dkwX3_answers_0 ++ dktX3_answers_1
theorem dksX3_answers_0 : cX3_answers.data.toList.drop 0 = dktX3_answers_0 := by decide +kernel
theorem dksX3_answers_1 : cX3_answers.data.toList.drop 24 = dktX3_answers_1 := dk_seg dksX3_answers_0 24 rfl rfl
theorem dksX3_answers_2 : cX3_answers.data.toList.drop 47 = dktX3_answers_2 := dk_seg dksX3_answers_1 23 rfl rfl
theorem dX3_answers_0 : decode cX3_answers 0 = .ok (.aload_n 0, 1) := dk_42 (dk_at dksX3_answers_0 0 rfl rfl)
theorem dX3_answers_1 : decode cX3_answers 1 = .ok (.aload_n 0, 1) := dk_42 (dk_at dksX3_answers_0 1 rfl rfl)
theorem dX3_answers_2 : decode cX3_answers 2 = .ok (.iload_n 1, 1) := dk_27 (dk_at dksX3_answers_0 2 rfl rfl)
theorem dX3_answers_3 : decode cX3_answers 3 = .ok (.invokevirtual 249, 3) := dk_182 0 249 (dk_at dksX3_answers_0 3 rfl rfl)
theorem dX3_answers_6 : decode cX3_answers 6 = .ok (.iload_n 2, 1) := dk_28 (dk_at dksX3_answers_0 6 rfl rfl)
theorem dX3_answers_7 : decode cX3_answers 7 = .ok (.invokestatic 258, 3) := dk_184 1 2 (dk_at dksX3_answers_0 7 rfl rfl)
theorem dX3_answers_10 : decode cX3_answers 10 = .ok (.iconst 1, 1) := dk_4 (dk_at dksX3_answers_0 10 rfl rfl)
theorem dX3_answers_11 : decode cX3_answers 11 = .ok (.invokevirtual 181, 3) := dk_182 0 181 (dk_at dksX3_answers_0 11 rfl rfl)
theorem dX3_answers_14 : decode cX3_answers 14 = .ok (.ifCond .ne 5, 3) := dk_154 0 5 (dk_at dksX3_answers_0 14 rfl rfl)
theorem dX3_answers_17 : decode cX3_answers 17 = .ok (.iconst 0, 1) := dk_3 (dk_at dksX3_answers_0 17 rfl rfl)
theorem dX3_answers_18 : decode cX3_answers 18 = .ok (.ireturn, 1) := dk_172 (dk_at dksX3_answers_0 18 rfl rfl)
theorem dX3_answers_19 : decode cX3_answers 19 = .ok (.iconst 0, 1) := dk_3 (dk_at dksX3_answers_0 19 rfl rfl)
theorem dX3_answers_20 : decode cX3_answers 20 = .ok (.istore_n 3, 1) := dk_62 (dk_at dksX3_answers_0 20 rfl rfl)
theorem dX3_answers_21 : decode cX3_answers 21 = .ok (.iconst 0, 1) := dk_3 (dk_at dksX3_answers_0 21 rfl rfl)
theorem dX3_answers_22 : decode cX3_answers 22 = .ok (.istore 4, 2) := dk_54 4 (dk_at dksX3_answers_0 22 rfl rfl)
theorem dX3_answers_24 : decode cX3_answers 24 = .ok (.iload 4, 2) := dk_21 4 (dk_at dksX3_answers_1 0 rfl rfl)
theorem dX3_answers_26 : decode cX3_answers 26 = .ok (.aload_n 0, 1) := dk_42 (dk_at dksX3_answers_1 2 rfl rfl)
theorem dX3_answers_27 : decode cX3_answers 27 = .ok (.getfield 91, 3) := dk_180 0 91 (dk_at dksX3_answers_1 3 rfl rfl)
theorem dX3_answers_30 : decode cX3_answers 30 = .ok (.if_icmp .ge 33, 3) := dk_162 0 33 (dk_at dksX3_answers_1 6 rfl rfl)
theorem dX3_answers_33 : decode cX3_answers 33 = .ok (.iload_n 3, 1) := dk_29 (dk_at dksX3_answers_1 9 rfl rfl)
theorem dX3_answers_34 : decode cX3_answers 34 = .ok (.aload_n 0, 1) := dk_42 (dk_at dksX3_answers_1 10 rfl rfl)
theorem dX3_answers_35 : decode cX3_answers 35 = .ok (.getfield 66, 3) := dk_180 0 66 (dk_at dksX3_answers_1 11 rfl rfl)
theorem dX3_answers_38 : decode cX3_answers 38 = .ok (.bipush 80, 2) := dk_16 80 (dk_at dksX3_answers_1 14 rfl rfl)
theorem dX3_answers_40 : decode cX3_answers 40 = .ok (.iload_n 1, 1) := dk_27 (dk_at dksX3_answers_1 16 rfl rfl)
theorem dX3_answers_41 : decode cX3_answers 41 = .ok (.imul, 1) := dk_104 (dk_at dksX3_answers_1 17 rfl rfl)
theorem dX3_answers_42 : decode cX3_answers 42 = .ok (.iload 4, 2) := dk_21 4 (dk_at dksX3_answers_1 18 rfl rfl)
theorem dX3_answers_44 : decode cX3_answers 44 = .ok (.iadd, 1) := dk_96 (dk_at dksX3_answers_1 20 rfl rfl)
theorem dX3_answers_45 : decode cX3_answers 45 = .ok (.iaload, 1) := dk_46 (dk_at dksX3_answers_1 21 rfl rfl)
theorem dX3_answers_46 : decode cX3_answers 46 = .ok (.iload_n 2, 1) := dk_28 (dk_at dksX3_answers_1 22 rfl rfl)
theorem dX3_answers_47 : decode cX3_answers 47 = .ok (.if_icmp .ne 7, 3) := dk_160 0 7 (dk_at dksX3_answers_2 0 rfl rfl)
theorem dX3_answers_50 : decode cX3_answers 50 = .ok (.iconst 1, 1) := dk_4 (dk_at dksX3_answers_2 3 rfl rfl)
theorem dX3_answers_51 : decode cX3_answers 51 = .ok (.goto 4, 3) := dk_167 0 4 (dk_at dksX3_answers_2 4 rfl rfl)
theorem dX3_answers_54 : decode cX3_answers 54 = .ok (.iconst 0, 1) := dk_3 (dk_at dksX3_answers_2 7 rfl rfl)
theorem dX3_answers_55 : decode cX3_answers 55 = .ok (.iadd, 1) := dk_96 (dk_at dksX3_answers_2 8 rfl rfl)
theorem dX3_answers_56 : decode cX3_answers 56 = .ok (.istore_n 3, 1) := dk_62 (dk_at dksX3_answers_2 9 rfl rfl)
theorem dX3_answers_57 : decode cX3_answers 57 = .ok (.iinc 4 1, 3) := dk_132 4 1 (dk_at dksX3_answers_2 10 rfl rfl)
theorem dX3_answers_60 : decode cX3_answers 60 = .ok (.goto (-36), 3) := dk_167 255 220 (dk_at dksX3_answers_2 13 rfl rfl)
theorem dX3_answers_63 : decode cX3_answers 63 = .ok (.iload_n 3, 1) := dk_29 (dk_at dksX3_answers_2 16 rfl rfl)
theorem dX3_answers_64 : decode cX3_answers 64 = .ok (.ireturn, 1) := dk_172 (dk_at dksX3_answers_2 17 rfl rfl)
abbrev cX3_isAnswer : ByteArray := prog_13_method_74_code
def yX3_isAnswer : MethodName := ⟨RX3, "isAnswer", "(I)Z"⟩
def dkwX3_isAnswer_0 : List UInt8 := [26, 3, 5, 184, 0, 87, 172]
abbrev dktX3_isAnswer_0 : List UInt8 := dkwX3_isAnswer_0 ++ []
theorem dksX3_isAnswer_0 : cX3_isAnswer.data.toList.drop 0 = dktX3_isAnswer_0 := by decide +kernel
theorem dX3_isAnswer_0 : decode cX3_isAnswer 0 = .ok (.iload_n 0, 1) := dk_26 (dk_at dksX3_isAnswer_0 0 rfl rfl)
theorem dX3_isAnswer_1 : decode cX3_isAnswer 1 = .ok (.iconst 0, 1) := dk_3 (dk_at dksX3_isAnswer_0 1 rfl rfl)
theorem dX3_isAnswer_2 : decode cX3_isAnswer 2 = .ok (.iconst 2, 1) := dk_5 (dk_at dksX3_isAnswer_0 2 rfl rfl)
theorem dX3_isAnswer_3 : decode cX3_isAnswer 3 = .ok (.invokestatic 87, 3) := dk_184 0 87 (dk_at dksX3_isAnswer_0 3 rfl rfl)
theorem dX3_isAnswer_6 : decode cX3_isAnswer 6 = .ok (.ireturn, 1) := dk_172 (dk_at dksX3_isAnswer_0 6 rfl rfl)
abbrev cX3_takenBack : ByteArray := prog_13_method_76_code
def yX3_takenBack : MethodName := ⟨RX3, "takenBack", "(I)I"⟩
def dkwX3_takenBack_1 : List UInt8 := [172]
abbrev dktX3_takenBack_1 : List UInt8 := dkwX3_takenBack_1 ++ []
def dkwX3_takenBack_0 : List UInt8 := [42, 42, 27, 182, 0, 249, 4, 4, 182, 0, 181, 153, 0, 12, 42, 180, 0, 63, 27, 46, 167, 0, 4, 3]
abbrev dktX3_takenBack_0 : List UInt8 := dkwX3_takenBack_0 ++ dktX3_takenBack_1
theorem dksX3_takenBack_0 : cX3_takenBack.data.toList.drop 0 = dktX3_takenBack_0 := by decide +kernel
theorem dksX3_takenBack_1 : cX3_takenBack.data.toList.drop 24 = dktX3_takenBack_1 := dk_seg dksX3_takenBack_0 24 rfl rfl
theorem dX3_takenBack_0 : decode cX3_takenBack 0 = .ok (.aload_n 0, 1) := dk_42 (dk_at dksX3_takenBack_0 0 rfl rfl)
theorem dX3_takenBack_1 : decode cX3_takenBack 1 = .ok (.aload_n 0, 1) := dk_42 (dk_at dksX3_takenBack_0 1 rfl rfl)
theorem dX3_takenBack_2 : decode cX3_takenBack 2 = .ok (.iload_n 1, 1) := dk_27 (dk_at dksX3_takenBack_0 2 rfl rfl)
theorem dX3_takenBack_3 : decode cX3_takenBack 3 = .ok (.invokevirtual 249, 3) := dk_182 0 249 (dk_at dksX3_takenBack_0 3 rfl rfl)
theorem dX3_takenBack_6 : decode cX3_takenBack 6 = .ok (.iconst 1, 1) := dk_4 (dk_at dksX3_takenBack_0 6 rfl rfl)
theorem dX3_takenBack_7 : decode cX3_takenBack 7 = .ok (.iconst 1, 1) := dk_4 (dk_at dksX3_takenBack_0 7 rfl rfl)
theorem dX3_takenBack_8 : decode cX3_takenBack 8 = .ok (.invokevirtual 181, 3) := dk_182 0 181 (dk_at dksX3_takenBack_0 8 rfl rfl)
theorem dX3_takenBack_11 : decode cX3_takenBack 11 = .ok (.ifCond .eq 12, 3) := dk_153 0 12 (dk_at dksX3_takenBack_0 11 rfl rfl)
theorem dX3_takenBack_14 : decode cX3_takenBack 14 = .ok (.aload_n 0, 1) := dk_42 (dk_at dksX3_takenBack_0 14 rfl rfl)
theorem dX3_takenBack_15 : decode cX3_takenBack 15 = .ok (.getfield 63, 3) := dk_180 0 63 (dk_at dksX3_takenBack_0 15 rfl rfl)
theorem dX3_takenBack_18 : decode cX3_takenBack 18 = .ok (.iload_n 1, 1) := dk_27 (dk_at dksX3_takenBack_0 18 rfl rfl)
theorem dX3_takenBack_19 : decode cX3_takenBack 19 = .ok (.iaload, 1) := dk_46 (dk_at dksX3_takenBack_0 19 rfl rfl)
theorem dX3_takenBack_20 : decode cX3_takenBack 20 = .ok (.goto 4, 3) := dk_167 0 4 (dk_at dksX3_takenBack_0 20 rfl rfl)
theorem dX3_takenBack_23 : decode cX3_takenBack 23 = .ok (.iconst 0, 1) := dk_3 (dk_at dksX3_takenBack_0 23 rfl rfl)
theorem dX3_takenBack_24 : decode cX3_takenBack 24 = .ok (.ireturn, 1) := dk_172 (dk_at dksX3_takenBack_1 0 rfl rfl)
abbrev cX3_back : ByteArray := prog_13_method_81_code
def yX3_back : MethodName := ⟨RX3, "back", "(I)I"⟩
def dkwX3_back_1 : List UInt8 := [172]
abbrev dktX3_back_1 : List UInt8 := dkwX3_back_1 ++ []
def dkwX3_back_0 : List UInt8 := [42, 42, 27, 182, 0, 249, 4, 4, 182, 0, 181, 153, 0, 12, 42, 27, 4, 182, 1, 15, 167, 0, 4, 3]
abbrev dktX3_back_0 : List UInt8 := dkwX3_back_0 ++ dktX3_back_1
theorem dksX3_back_0 : cX3_back.data.toList.drop 0 = dktX3_back_0 := by decide +kernel
theorem dksX3_back_1 : cX3_back.data.toList.drop 24 = dktX3_back_1 := dk_seg dksX3_back_0 24 rfl rfl
theorem dX3_back_0 : decode cX3_back 0 = .ok (.aload_n 0, 1) := dk_42 (dk_at dksX3_back_0 0 rfl rfl)
theorem dX3_back_1 : decode cX3_back 1 = .ok (.aload_n 0, 1) := dk_42 (dk_at dksX3_back_0 1 rfl rfl)
theorem dX3_back_2 : decode cX3_back 2 = .ok (.iload_n 1, 1) := dk_27 (dk_at dksX3_back_0 2 rfl rfl)
theorem dX3_back_3 : decode cX3_back 3 = .ok (.invokevirtual 249, 3) := dk_182 0 249 (dk_at dksX3_back_0 3 rfl rfl)
theorem dX3_back_6 : decode cX3_back 6 = .ok (.iconst 1, 1) := dk_4 (dk_at dksX3_back_0 6 rfl rfl)
theorem dX3_back_7 : decode cX3_back 7 = .ok (.iconst 1, 1) := dk_4 (dk_at dksX3_back_0 7 rfl rfl)
theorem dX3_back_8 : decode cX3_back 8 = .ok (.invokevirtual 181, 3) := dk_182 0 181 (dk_at dksX3_back_0 8 rfl rfl)
theorem dX3_back_11 : decode cX3_back 11 = .ok (.ifCond .eq 12, 3) := dk_153 0 12 (dk_at dksX3_back_0 11 rfl rfl)
theorem dX3_back_14 : decode cX3_back 14 = .ok (.aload_n 0, 1) := dk_42 (dk_at dksX3_back_0 14 rfl rfl)
theorem dX3_back_15 : decode cX3_back 15 = .ok (.iload_n 1, 1) := dk_27 (dk_at dksX3_back_0 15 rfl rfl)
theorem dX3_back_16 : decode cX3_back 16 = .ok (.iconst 1, 1) := dk_4 (dk_at dksX3_back_0 16 rfl rfl)
theorem dX3_back_17 : decode cX3_back 17 = .ok (.invokevirtual 271, 3) := dk_182 1 15 (dk_at dksX3_back_0 17 rfl rfl)
theorem dX3_back_20 : decode cX3_back 20 = .ok (.goto 4, 3) := dk_167 0 4 (dk_at dksX3_back_0 20 rfl rfl)
theorem dX3_back_23 : decode cX3_back 23 = .ok (.iconst 0, 1) := dk_3 (dk_at dksX3_back_0 23 rfl rfl)
theorem dX3_back_24 : decode cX3_back 24 = .ok (.ireturn, 1) := dk_172 (dk_at dksX3_back_1 0 rfl rfl)
abbrev cX3_looksAll : ByteArray := prog_13_method_80_code
def yX3_looksAll : MethodName := ⟨RX3, "looksAll", "(IZ)I"⟩
def dkwX3_looksAll_4 : List UInt8 := [132, 4, 1, 167, 255, 167, 42, 180, 0, 78, 42, 180, 0, 60, 27, 46, 4, 100, 46, 172]
abbrev dktX3_looksAll_4 : List UInt8 := dkwX3_looksAll_4 ++ []
def dkwX3_looksAll_3 : List UInt8 := [54, 6, 167, 255, 211, 42, 180, 0, 78, 21, 4, 42, 29, 21, 4, 96, 21, 5, 28, 182, 1, 11, 79]
abbrev dktX3_looksAll_3 : List UInt8 := dkwX3_looksAll_3 ++ dktX3_looksAll_4
def dkwX3_looksAll_2 : List UInt8 := [180, 0, 78, 21, 6, 46, 184, 1, 8, 54, 5, 21, 6, 42, 180, 0, 51, 29, 21, 6, 96, 46, 100]
abbrev dktX3_looksAll_2 : List UInt8 := dkwX3_looksAll_2 ++ dktX3_looksAll_3
def dkwX3_looksAll_1 : List UInt8 := [4, 100, 54, 6, 21, 6, 21, 4, 42, 180, 0, 51, 29, 21, 4, 96, 46, 100, 164, 0, 34, 21, 5, 42]
abbrev dktX3_looksAll_1 : List UInt8 := dkwX3_looksAll_1 ++ dktX3_looksAll_2
def dkwX3_looksAll_0 : List UInt8 := [27, 184, 0, 148, 62, 3, 54, 4, 21, 4, 42, 180, 0, 60, 27, 46, 162, 0, 84, 3, 54, 5, 21, 4]
abbrev dktX3_looksAll_0 : List UInt8 := dkwX3_looksAll_0 ++ dktX3_looksAll_1
theorem dksX3_looksAll_0 : cX3_looksAll.data.toList.drop 0 = dktX3_looksAll_0 := by decide +kernel
theorem dksX3_looksAll_1 : cX3_looksAll.data.toList.drop 24 = dktX3_looksAll_1 := dk_seg dksX3_looksAll_0 24 rfl rfl
theorem dksX3_looksAll_2 : cX3_looksAll.data.toList.drop 48 = dktX3_looksAll_2 := dk_seg dksX3_looksAll_1 24 rfl rfl
theorem dksX3_looksAll_3 : cX3_looksAll.data.toList.drop 71 = dktX3_looksAll_3 := dk_seg dksX3_looksAll_2 23 rfl rfl
theorem dksX3_looksAll_4 : cX3_looksAll.data.toList.drop 94 = dktX3_looksAll_4 := dk_seg dksX3_looksAll_3 23 rfl rfl
theorem dX3_looksAll_0 : decode cX3_looksAll 0 = .ok (.iload_n 1, 1) := dk_27 (dk_at dksX3_looksAll_0 0 rfl rfl)
theorem dX3_looksAll_1 : decode cX3_looksAll 1 = .ok (.invokestatic 148, 3) := dk_184 0 148 (dk_at dksX3_looksAll_0 1 rfl rfl)
theorem dX3_looksAll_4 : decode cX3_looksAll 4 = .ok (.istore_n 3, 1) := dk_62 (dk_at dksX3_looksAll_0 4 rfl rfl)
theorem dX3_looksAll_5 : decode cX3_looksAll 5 = .ok (.iconst 0, 1) := dk_3 (dk_at dksX3_looksAll_0 5 rfl rfl)
theorem dX3_looksAll_6 : decode cX3_looksAll 6 = .ok (.istore 4, 2) := dk_54 4 (dk_at dksX3_looksAll_0 6 rfl rfl)
theorem dX3_looksAll_8 : decode cX3_looksAll 8 = .ok (.iload 4, 2) := dk_21 4 (dk_at dksX3_looksAll_0 8 rfl rfl)
theorem dX3_looksAll_10 : decode cX3_looksAll 10 = .ok (.aload_n 0, 1) := dk_42 (dk_at dksX3_looksAll_0 10 rfl rfl)
theorem dX3_looksAll_11 : decode cX3_looksAll 11 = .ok (.getfield 60, 3) := dk_180 0 60 (dk_at dksX3_looksAll_0 11 rfl rfl)
theorem dX3_looksAll_14 : decode cX3_looksAll 14 = .ok (.iload_n 1, 1) := dk_27 (dk_at dksX3_looksAll_0 14 rfl rfl)
theorem dX3_looksAll_15 : decode cX3_looksAll 15 = .ok (.iaload, 1) := dk_46 (dk_at dksX3_looksAll_0 15 rfl rfl)
theorem dX3_looksAll_16 : decode cX3_looksAll 16 = .ok (.if_icmp .ge 84, 3) := dk_162 0 84 (dk_at dksX3_looksAll_0 16 rfl rfl)
theorem dX3_looksAll_19 : decode cX3_looksAll 19 = .ok (.iconst 0, 1) := dk_3 (dk_at dksX3_looksAll_0 19 rfl rfl)
theorem dX3_looksAll_20 : decode cX3_looksAll 20 = .ok (.istore 5, 2) := dk_54 5 (dk_at dksX3_looksAll_0 20 rfl rfl)
theorem dX3_looksAll_22 : decode cX3_looksAll 22 = .ok (.iload 4, 2) := dk_21 4 (dk_at dksX3_looksAll_0 22 rfl rfl)
theorem dX3_looksAll_24 : decode cX3_looksAll 24 = .ok (.iconst 1, 1) := dk_4 (dk_at dksX3_looksAll_1 0 rfl rfl)
theorem dX3_looksAll_25 : decode cX3_looksAll 25 = .ok (.isub, 1) := dk_100 (dk_at dksX3_looksAll_1 1 rfl rfl)
theorem dX3_looksAll_26 : decode cX3_looksAll 26 = .ok (.istore 6, 2) := dk_54 6 (dk_at dksX3_looksAll_1 2 rfl rfl)
theorem dX3_looksAll_28 : decode cX3_looksAll 28 = .ok (.iload 6, 2) := dk_21 6 (dk_at dksX3_looksAll_1 4 rfl rfl)
theorem dX3_looksAll_30 : decode cX3_looksAll 30 = .ok (.iload 4, 2) := dk_21 4 (dk_at dksX3_looksAll_1 6 rfl rfl)
theorem dX3_looksAll_32 : decode cX3_looksAll 32 = .ok (.aload_n 0, 1) := dk_42 (dk_at dksX3_looksAll_1 8 rfl rfl)
theorem dX3_looksAll_33 : decode cX3_looksAll 33 = .ok (.getfield 51, 3) := dk_180 0 51 (dk_at dksX3_looksAll_1 9 rfl rfl)
theorem dX3_looksAll_36 : decode cX3_looksAll 36 = .ok (.iload_n 3, 1) := dk_29 (dk_at dksX3_looksAll_1 12 rfl rfl)
theorem dX3_looksAll_37 : decode cX3_looksAll 37 = .ok (.iload 4, 2) := dk_21 4 (dk_at dksX3_looksAll_1 13 rfl rfl)
theorem dX3_looksAll_39 : decode cX3_looksAll 39 = .ok (.iadd, 1) := dk_96 (dk_at dksX3_looksAll_1 15 rfl rfl)
theorem dX3_looksAll_40 : decode cX3_looksAll 40 = .ok (.iaload, 1) := dk_46 (dk_at dksX3_looksAll_1 16 rfl rfl)
theorem dX3_looksAll_41 : decode cX3_looksAll 41 = .ok (.isub, 1) := dk_100 (dk_at dksX3_looksAll_1 17 rfl rfl)
theorem dX3_looksAll_42 : decode cX3_looksAll 42 = .ok (.if_icmp .le 34, 3) := dk_164 0 34 (dk_at dksX3_looksAll_1 18 rfl rfl)
theorem dX3_looksAll_45 : decode cX3_looksAll 45 = .ok (.iload 5, 2) := dk_21 5 (dk_at dksX3_looksAll_1 21 rfl rfl)
theorem dX3_looksAll_47 : decode cX3_looksAll 47 = .ok (.aload_n 0, 1) := dk_42 (dk_at dksX3_looksAll_1 23 rfl rfl)
theorem dX3_looksAll_48 : decode cX3_looksAll 48 = .ok (.getfield 78, 3) := dk_180 0 78 (dk_at dksX3_looksAll_2 0 rfl rfl)
theorem dX3_looksAll_51 : decode cX3_looksAll 51 = .ok (.iload 6, 2) := dk_21 6 (dk_at dksX3_looksAll_2 3 rfl rfl)
theorem dX3_looksAll_53 : decode cX3_looksAll 53 = .ok (.iaload, 1) := dk_46 (dk_at dksX3_looksAll_2 5 rfl rfl)
theorem dX3_looksAll_54 : decode cX3_looksAll 54 = .ok (.invokestatic 264, 3) := dk_184 1 8 (dk_at dksX3_looksAll_2 6 rfl rfl)
theorem dX3_looksAll_57 : decode cX3_looksAll 57 = .ok (.istore 5, 2) := dk_54 5 (dk_at dksX3_looksAll_2 9 rfl rfl)
theorem dX3_looksAll_59 : decode cX3_looksAll 59 = .ok (.iload 6, 2) := dk_21 6 (dk_at dksX3_looksAll_2 11 rfl rfl)
theorem dX3_looksAll_61 : decode cX3_looksAll 61 = .ok (.aload_n 0, 1) := dk_42 (dk_at dksX3_looksAll_2 13 rfl rfl)
theorem dX3_looksAll_62 : decode cX3_looksAll 62 = .ok (.getfield 51, 3) := dk_180 0 51 (dk_at dksX3_looksAll_2 14 rfl rfl)
theorem dX3_looksAll_65 : decode cX3_looksAll 65 = .ok (.iload_n 3, 1) := dk_29 (dk_at dksX3_looksAll_2 17 rfl rfl)
theorem dX3_looksAll_66 : decode cX3_looksAll 66 = .ok (.iload 6, 2) := dk_21 6 (dk_at dksX3_looksAll_2 18 rfl rfl)
theorem dX3_looksAll_68 : decode cX3_looksAll 68 = .ok (.iadd, 1) := dk_96 (dk_at dksX3_looksAll_2 20 rfl rfl)
theorem dX3_looksAll_69 : decode cX3_looksAll 69 = .ok (.iaload, 1) := dk_46 (dk_at dksX3_looksAll_2 21 rfl rfl)
theorem dX3_looksAll_70 : decode cX3_looksAll 70 = .ok (.isub, 1) := dk_100 (dk_at dksX3_looksAll_2 22 rfl rfl)
theorem dX3_looksAll_71 : decode cX3_looksAll 71 = .ok (.istore 6, 2) := dk_54 6 (dk_at dksX3_looksAll_3 0 rfl rfl)
theorem dX3_looksAll_73 : decode cX3_looksAll 73 = .ok (.goto (-45), 3) := dk_167 255 211 (dk_at dksX3_looksAll_3 2 rfl rfl)
theorem dX3_looksAll_76 : decode cX3_looksAll 76 = .ok (.aload_n 0, 1) := dk_42 (dk_at dksX3_looksAll_3 5 rfl rfl)
theorem dX3_looksAll_77 : decode cX3_looksAll 77 = .ok (.getfield 78, 3) := dk_180 0 78 (dk_at dksX3_looksAll_3 6 rfl rfl)
theorem dX3_looksAll_80 : decode cX3_looksAll 80 = .ok (.iload 4, 2) := dk_21 4 (dk_at dksX3_looksAll_3 9 rfl rfl)
theorem dX3_looksAll_82 : decode cX3_looksAll 82 = .ok (.aload_n 0, 1) := dk_42 (dk_at dksX3_looksAll_3 11 rfl rfl)
theorem dX3_looksAll_83 : decode cX3_looksAll 83 = .ok (.iload_n 3, 1) := dk_29 (dk_at dksX3_looksAll_3 12 rfl rfl)
theorem dX3_looksAll_84 : decode cX3_looksAll 84 = .ok (.iload 4, 2) := dk_21 4 (dk_at dksX3_looksAll_3 13 rfl rfl)
theorem dX3_looksAll_86 : decode cX3_looksAll 86 = .ok (.iadd, 1) := dk_96 (dk_at dksX3_looksAll_3 15 rfl rfl)
theorem dX3_looksAll_87 : decode cX3_looksAll 87 = .ok (.iload 5, 2) := dk_21 5 (dk_at dksX3_looksAll_3 16 rfl rfl)
theorem dX3_looksAll_89 : decode cX3_looksAll 89 = .ok (.iload_n 2, 1) := dk_28 (dk_at dksX3_looksAll_3 18 rfl rfl)
theorem dX3_looksAll_90 : decode cX3_looksAll 90 = .ok (.invokevirtual 267, 3) := dk_182 1 11 (dk_at dksX3_looksAll_3 19 rfl rfl)
theorem dX3_looksAll_93 : decode cX3_looksAll 93 = .ok (.iastore, 1) := dk_79 (dk_at dksX3_looksAll_3 22 rfl rfl)
theorem dX3_looksAll_94 : decode cX3_looksAll 94 = .ok (.iinc 4 1, 3) := dk_132 4 1 (dk_at dksX3_looksAll_4 0 rfl rfl)
theorem dX3_looksAll_97 : decode cX3_looksAll 97 = .ok (.goto (-89), 3) := dk_167 255 167 (dk_at dksX3_looksAll_4 3 rfl rfl)
theorem dX3_looksAll_100 : decode cX3_looksAll 100 = .ok (.aload_n 0, 1) := dk_42 (dk_at dksX3_looksAll_4 6 rfl rfl)
theorem dX3_looksAll_101 : decode cX3_looksAll 101 = .ok (.getfield 78, 3) := dk_180 0 78 (dk_at dksX3_looksAll_4 7 rfl rfl)
theorem dX3_looksAll_104 : decode cX3_looksAll 104 = .ok (.aload_n 0, 1) := dk_42 (dk_at dksX3_looksAll_4 10 rfl rfl)
theorem dX3_looksAll_105 : decode cX3_looksAll 105 = .ok (.getfield 60, 3) := dk_180 0 60 (dk_at dksX3_looksAll_4 11 rfl rfl)
theorem dX3_looksAll_108 : decode cX3_looksAll 108 = .ok (.iload_n 1, 1) := dk_27 (dk_at dksX3_looksAll_4 14 rfl rfl)
theorem dX3_looksAll_109 : decode cX3_looksAll 109 = .ok (.iaload, 1) := dk_46 (dk_at dksX3_looksAll_4 15 rfl rfl)
theorem dX3_looksAll_110 : decode cX3_looksAll 110 = .ok (.iconst 1, 1) := dk_4 (dk_at dksX3_looksAll_4 16 rfl rfl)
theorem dX3_looksAll_111 : decode cX3_looksAll 111 = .ok (.isub, 1) := dk_100 (dk_at dksX3_looksAll_4 17 rfl rfl)
theorem dX3_looksAll_112 : decode cX3_looksAll 112 = .ok (.iaload, 1) := dk_46 (dk_at dksX3_looksAll_4 18 rfl rfl)
theorem dX3_looksAll_113 : decode cX3_looksAll 113 = .ok (.ireturn, 1) := dk_172 (dk_at dksX3_looksAll_4 19 rfl rfl)
abbrev cX3_greater : ByteArray := prog_13_method_77_code
def yX3_greater : MethodName := ⟨RX3, "greater", "(II)I"⟩
def dkwX3_greater_1 : List UInt8 := [172]
abbrev dktX3_greater_1 : List UInt8 := dkwX3_greater_1 ++ []
def dkwX3_greater_0 : List UInt8 := [26, 2, 159, 0, 8, 27, 2, 160, 0, 7, 2, 167, 0, 13, 26, 27, 164, 0, 7, 26, 167, 0, 4, 27]
abbrev dktX3_greater_0 : List UInt8 := dkwX3_greater_0 ++ dktX3_greater_1
theorem dksX3_greater_0 : cX3_greater.data.toList.drop 0 = dktX3_greater_0 := by decide +kernel
theorem dksX3_greater_1 : cX3_greater.data.toList.drop 24 = dktX3_greater_1 := dk_seg dksX3_greater_0 24 rfl rfl
theorem dX3_greater_0 : decode cX3_greater 0 = .ok (.iload_n 0, 1) := dk_26 (dk_at dksX3_greater_0 0 rfl rfl)
theorem dX3_greater_1 : decode cX3_greater 1 = .ok (.iconst (-1), 1) := dk_2 (dk_at dksX3_greater_0 1 rfl rfl)
theorem dX3_greater_2 : decode cX3_greater 2 = .ok (.if_icmp .eq 8, 3) := dk_159 0 8 (dk_at dksX3_greater_0 2 rfl rfl)
theorem dX3_greater_5 : decode cX3_greater 5 = .ok (.iload_n 1, 1) := dk_27 (dk_at dksX3_greater_0 5 rfl rfl)
theorem dX3_greater_6 : decode cX3_greater 6 = .ok (.iconst (-1), 1) := dk_2 (dk_at dksX3_greater_0 6 rfl rfl)
theorem dX3_greater_7 : decode cX3_greater 7 = .ok (.if_icmp .ne 7, 3) := dk_160 0 7 (dk_at dksX3_greater_0 7 rfl rfl)
theorem dX3_greater_10 : decode cX3_greater 10 = .ok (.iconst (-1), 1) := dk_2 (dk_at dksX3_greater_0 10 rfl rfl)
theorem dX3_greater_11 : decode cX3_greater 11 = .ok (.goto 13, 3) := dk_167 0 13 (dk_at dksX3_greater_0 11 rfl rfl)
theorem dX3_greater_14 : decode cX3_greater 14 = .ok (.iload_n 0, 1) := dk_26 (dk_at dksX3_greater_0 14 rfl rfl)
theorem dX3_greater_15 : decode cX3_greater 15 = .ok (.iload_n 1, 1) := dk_27 (dk_at dksX3_greater_0 15 rfl rfl)
theorem dX3_greater_16 : decode cX3_greater 16 = .ok (.if_icmp .le 7, 3) := dk_164 0 7 (dk_at dksX3_greater_0 16 rfl rfl)
theorem dX3_greater_19 : decode cX3_greater 19 = .ok (.iload_n 0, 1) := dk_26 (dk_at dksX3_greater_0 19 rfl rfl)
theorem dX3_greater_20 : decode cX3_greater 20 = .ok (.goto 4, 3) := dk_167 0 4 (dk_at dksX3_greater_0 20 rfl rfl)
theorem dX3_greater_23 : decode cX3_greater 23 = .ok (.iload_n 1, 1) := dk_27 (dk_at dksX3_greater_0 23 rfl rfl)
theorem dX3_greater_24 : decode cX3_greater 24 = .ok (.ireturn, 1) := dk_172 (dk_at dksX3_greater_1 0 rfl rfl)
abbrev cX3_looks : ByteArray := prog_13_method_79_code
def yX3_looks : MethodName := ⟨RX3, "looks", "(IIZ)I"⟩
def dkwX3_looks_4 : List UInt8 := [180, 0, 48, 27, 46, 28, 184, 1, 5, 172, 28, 172]
abbrev dktX3_looks_4 : List UInt8 := dkwX3_looks_4 ++ []
def dkwX3_looks_3 : List UInt8 := [42, 180, 0, 48, 27, 46, 28, 184, 1, 5, 167, 0, 4, 28, 172, 29, 153, 0, 7, 28, 167, 0, 13, 42]
abbrev dktX3_looks_3 : List UInt8 := dkwX3_looks_3 ++ dktX3_looks_4
def dkwX3_looks_2 : List UInt8 := [29, 153, 0, 7, 2, 167, 0, 4, 28, 172, 29, 153, 0, 7, 28, 167, 0, 4, 2, 172, 29, 153, 0, 16]
abbrev dktX3_looks_2 : List UInt8 := dkwX3_looks_2 ++ dktX3_looks_3
def dkwX3_looks_1 : List UInt8 := [170, 0, 0, 0, 0, 100, 0, 0, 0, 5, 0, 0, 0, 11, 0, 0, 0, 42, 0, 0, 0, 62, 0, 0, 0, 62, 0, 0, 0, 52, 0, 0, 0, 81, 0, 0, 0, 81, 0, 0, 0, 62]
abbrev dktX3_looks_1 : List UInt8 := dkwX3_looks_1 ++ dktX3_looks_2
def dkwX3_looks_0 : List UInt8 := [42, 180, 0, 42, 27, 46]
abbrev dktX3_looks_0 : List UInt8 := dkwX3_looks_0 ++ dktX3_looks_1
theorem dksX3_looks_0 : cX3_looks.data.toList.drop 0 = dktX3_looks_0 := by decide +kernel
theorem dksX3_looks_1 : cX3_looks.data.toList.drop 6 = dktX3_looks_1 := dk_seg dksX3_looks_0 6 rfl rfl
theorem dksX3_looks_2 : cX3_looks.data.toList.drop 48 = dktX3_looks_2 := dk_seg dksX3_looks_1 42 rfl rfl
theorem dksX3_looks_3 : cX3_looks.data.toList.drop 72 = dktX3_looks_3 := dk_seg dksX3_looks_2 24 rfl rfl
theorem dksX3_looks_4 : cX3_looks.data.toList.drop 96 = dktX3_looks_4 := dk_seg dksX3_looks_3 24 rfl rfl
theorem dX3_looks_0 : decode cX3_looks 0 = .ok (.aload_n 0, 1) := dk_42 (dk_at dksX3_looks_0 0 rfl rfl)
theorem dX3_looks_1 : decode cX3_looks 1 = .ok (.getfield 42, 3) := dk_180 0 42 (dk_at dksX3_looks_0 1 rfl rfl)
theorem dX3_looks_4 : decode cX3_looks 4 = .ok (.iload_n 1, 1) := dk_27 (dk_at dksX3_looks_0 4 rfl rfl)
theorem dX3_looks_5 : decode cX3_looks 5 = .ok (.iaload, 1) := dk_46 (dk_at dksX3_looks_0 5 rfl rfl)
theorem dX3_looks_6 : decode cX3_looks 6 = .ok (.tableswitch 100 5 11 #[42, 62, 62, 52, 81, 81, 62], 42) := by decide +kernel
theorem dX3_looks_48 : decode cX3_looks 48 = .ok (.iload_n 3, 1) := dk_29 (dk_at dksX3_looks_2 0 rfl rfl)
theorem dX3_looks_49 : decode cX3_looks 49 = .ok (.ifCond .eq 7, 3) := dk_153 0 7 (dk_at dksX3_looks_2 1 rfl rfl)
theorem dX3_looks_52 : decode cX3_looks 52 = .ok (.iconst (-1), 1) := dk_2 (dk_at dksX3_looks_2 4 rfl rfl)
theorem dX3_looks_53 : decode cX3_looks 53 = .ok (.goto 4, 3) := dk_167 0 4 (dk_at dksX3_looks_2 5 rfl rfl)
theorem dX3_looks_56 : decode cX3_looks 56 = .ok (.iload_n 2, 1) := dk_28 (dk_at dksX3_looks_2 8 rfl rfl)
theorem dX3_looks_57 : decode cX3_looks 57 = .ok (.ireturn, 1) := dk_172 (dk_at dksX3_looks_2 9 rfl rfl)
theorem dX3_looks_58 : decode cX3_looks 58 = .ok (.iload_n 3, 1) := dk_29 (dk_at dksX3_looks_2 10 rfl rfl)
theorem dX3_looks_59 : decode cX3_looks 59 = .ok (.ifCond .eq 7, 3) := dk_153 0 7 (dk_at dksX3_looks_2 11 rfl rfl)
theorem dX3_looks_62 : decode cX3_looks 62 = .ok (.iload_n 2, 1) := dk_28 (dk_at dksX3_looks_2 14 rfl rfl)
theorem dX3_looks_63 : decode cX3_looks 63 = .ok (.goto 4, 3) := dk_167 0 4 (dk_at dksX3_looks_2 15 rfl rfl)
theorem dX3_looks_66 : decode cX3_looks 66 = .ok (.iconst (-1), 1) := dk_2 (dk_at dksX3_looks_2 18 rfl rfl)
theorem dX3_looks_67 : decode cX3_looks 67 = .ok (.ireturn, 1) := dk_172 (dk_at dksX3_looks_2 19 rfl rfl)
theorem dX3_looks_68 : decode cX3_looks 68 = .ok (.iload_n 3, 1) := dk_29 (dk_at dksX3_looks_2 20 rfl rfl)
theorem dX3_looks_69 : decode cX3_looks 69 = .ok (.ifCond .eq 16, 3) := dk_153 0 16 (dk_at dksX3_looks_2 21 rfl rfl)
theorem dX3_looks_72 : decode cX3_looks 72 = .ok (.aload_n 0, 1) := dk_42 (dk_at dksX3_looks_3 0 rfl rfl)
theorem dX3_looks_73 : decode cX3_looks 73 = .ok (.getfield 48, 3) := dk_180 0 48 (dk_at dksX3_looks_3 1 rfl rfl)
theorem dX3_looks_76 : decode cX3_looks 76 = .ok (.iload_n 1, 1) := dk_27 (dk_at dksX3_looks_3 4 rfl rfl)
theorem dX3_looks_77 : decode cX3_looks 77 = .ok (.iaload, 1) := dk_46 (dk_at dksX3_looks_3 5 rfl rfl)
theorem dX3_looks_78 : decode cX3_looks 78 = .ok (.iload_n 2, 1) := dk_28 (dk_at dksX3_looks_3 6 rfl rfl)
theorem dX3_looks_79 : decode cX3_looks 79 = .ok (.invokestatic 261, 3) := dk_184 1 5 (dk_at dksX3_looks_3 7 rfl rfl)
theorem dX3_looks_82 : decode cX3_looks 82 = .ok (.goto 4, 3) := dk_167 0 4 (dk_at dksX3_looks_3 10 rfl rfl)
theorem dX3_looks_85 : decode cX3_looks 85 = .ok (.iload_n 2, 1) := dk_28 (dk_at dksX3_looks_3 13 rfl rfl)
theorem dX3_looks_86 : decode cX3_looks 86 = .ok (.ireturn, 1) := dk_172 (dk_at dksX3_looks_3 14 rfl rfl)
theorem dX3_looks_87 : decode cX3_looks 87 = .ok (.iload_n 3, 1) := dk_29 (dk_at dksX3_looks_3 15 rfl rfl)
theorem dX3_looks_88 : decode cX3_looks 88 = .ok (.ifCond .eq 7, 3) := dk_153 0 7 (dk_at dksX3_looks_3 16 rfl rfl)
theorem dX3_looks_91 : decode cX3_looks 91 = .ok (.iload_n 2, 1) := dk_28 (dk_at dksX3_looks_3 19 rfl rfl)
theorem dX3_looks_92 : decode cX3_looks 92 = .ok (.goto 13, 3) := dk_167 0 13 (dk_at dksX3_looks_3 20 rfl rfl)
theorem dX3_looks_95 : decode cX3_looks 95 = .ok (.aload_n 0, 1) := dk_42 (dk_at dksX3_looks_3 23 rfl rfl)
theorem dX3_looks_96 : decode cX3_looks 96 = .ok (.getfield 48, 3) := dk_180 0 48 (dk_at dksX3_looks_4 0 rfl rfl)
theorem dX3_looks_99 : decode cX3_looks 99 = .ok (.iload_n 1, 1) := dk_27 (dk_at dksX3_looks_4 3 rfl rfl)
theorem dX3_looks_100 : decode cX3_looks 100 = .ok (.iaload, 1) := dk_46 (dk_at dksX3_looks_4 4 rfl rfl)
theorem dX3_looks_101 : decode cX3_looks 101 = .ok (.iload_n 2, 1) := dk_28 (dk_at dksX3_looks_4 5 rfl rfl)
theorem dX3_looks_102 : decode cX3_looks 102 = .ok (.invokestatic 261, 3) := dk_184 1 5 (dk_at dksX3_looks_4 6 rfl rfl)
theorem dX3_looks_105 : decode cX3_looks 105 = .ok (.ireturn, 1) := dk_172 (dk_at dksX3_looks_4 9 rfl rfl)
theorem dX3_looks_106 : decode cX3_looks 106 = .ok (.iload_n 2, 1) := dk_28 (dk_at dksX3_looks_4 10 rfl rfl)
theorem dX3_looks_107 : decode cX3_looks 107 = .ok (.ireturn, 1) := dk_172 (dk_at dksX3_looks_4 11 rfl rfl)
abbrev cX3_together : ByteArray := prog_13_method_78_code
def yX3_together : MethodName := ⟨RX3, "together", "(II)I"⟩
def dkwX3_together_0 : List UInt8 := [26, 2, 159, 0, 8, 27, 2, 160, 0, 7, 2, 167, 0, 6, 26, 27, 96, 172]
abbrev dktX3_together_0 : List UInt8 := dkwX3_together_0 ++ []
theorem dksX3_together_0 : cX3_together.data.toList.drop 0 = dktX3_together_0 := by decide +kernel
theorem dX3_together_0 : decode cX3_together 0 = .ok (.iload_n 0, 1) := dk_26 (dk_at dksX3_together_0 0 rfl rfl)
theorem dX3_together_1 : decode cX3_together 1 = .ok (.iconst (-1), 1) := dk_2 (dk_at dksX3_together_0 1 rfl rfl)
theorem dX3_together_2 : decode cX3_together 2 = .ok (.if_icmp .eq 8, 3) := dk_159 0 8 (dk_at dksX3_together_0 2 rfl rfl)
theorem dX3_together_5 : decode cX3_together 5 = .ok (.iload_n 1, 1) := dk_27 (dk_at dksX3_together_0 5 rfl rfl)
theorem dX3_together_6 : decode cX3_together 6 = .ok (.iconst (-1), 1) := dk_2 (dk_at dksX3_together_0 6 rfl rfl)
theorem dX3_together_7 : decode cX3_together 7 = .ok (.if_icmp .ne 7, 3) := dk_160 0 7 (dk_at dksX3_together_0 7 rfl rfl)
theorem dX3_together_10 : decode cX3_together 10 = .ok (.iconst (-1), 1) := dk_2 (dk_at dksX3_together_0 10 rfl rfl)
theorem dX3_together_11 : decode cX3_together 11 = .ok (.goto 6, 3) := dk_167 0 6 (dk_at dksX3_together_0 11 rfl rfl)
theorem dX3_together_14 : decode cX3_together 14 = .ok (.iload_n 0, 1) := dk_26 (dk_at dksX3_together_0 14 rfl rfl)
theorem dX3_together_15 : decode cX3_together 15 = .ok (.iload_n 1, 1) := dk_27 (dk_at dksX3_together_0 15 rfl rfl)
theorem dX3_together_16 : decode cX3_together 16 = .ok (.iadd, 1) := dk_96 (dk_at dksX3_together_0 16 rfl rfl)
theorem dX3_together_17 : decode cX3_together 17 = .ok (.ireturn, 1) := dk_172 (dk_at dksX3_together_0 17 rfl rfl)
abbrev cX3_ahead : ByteArray := prog_13_method_82_code
def yX3_ahead : MethodName := ⟨RX3, "ahead", "(I)I"⟩
def dkwX3_ahead_1 : List UInt8 := [172]
abbrev dktX3_ahead_1 : List UInt8 := dkwX3_ahead_1 ++ []
def dkwX3_ahead_0 : List UInt8 := [42, 42, 27, 182, 0, 249, 4, 4, 182, 0, 181, 153, 0, 12, 42, 27, 3, 182, 1, 15, 167, 0, 4, 3]
abbrev dktX3_ahead_0 : List UInt8 := dkwX3_ahead_0 ++ dktX3_ahead_1
theorem dksX3_ahead_0 : cX3_ahead.data.toList.drop 0 = dktX3_ahead_0 := by decide +kernel
theorem dksX3_ahead_1 : cX3_ahead.data.toList.drop 24 = dktX3_ahead_1 := dk_seg dksX3_ahead_0 24 rfl rfl
theorem dX3_ahead_0 : decode cX3_ahead 0 = .ok (.aload_n 0, 1) := dk_42 (dk_at dksX3_ahead_0 0 rfl rfl)
theorem dX3_ahead_1 : decode cX3_ahead 1 = .ok (.aload_n 0, 1) := dk_42 (dk_at dksX3_ahead_0 1 rfl rfl)
theorem dX3_ahead_2 : decode cX3_ahead 2 = .ok (.iload_n 1, 1) := dk_27 (dk_at dksX3_ahead_0 2 rfl rfl)
theorem dX3_ahead_3 : decode cX3_ahead 3 = .ok (.invokevirtual 249, 3) := dk_182 0 249 (dk_at dksX3_ahead_0 3 rfl rfl)
theorem dX3_ahead_6 : decode cX3_ahead 6 = .ok (.iconst 1, 1) := dk_4 (dk_at dksX3_ahead_0 6 rfl rfl)
theorem dX3_ahead_7 : decode cX3_ahead 7 = .ok (.iconst 1, 1) := dk_4 (dk_at dksX3_ahead_0 7 rfl rfl)
theorem dX3_ahead_8 : decode cX3_ahead 8 = .ok (.invokevirtual 181, 3) := dk_182 0 181 (dk_at dksX3_ahead_0 8 rfl rfl)
theorem dX3_ahead_11 : decode cX3_ahead 11 = .ok (.ifCond .eq 12, 3) := dk_153 0 12 (dk_at dksX3_ahead_0 11 rfl rfl)
theorem dX3_ahead_14 : decode cX3_ahead 14 = .ok (.aload_n 0, 1) := dk_42 (dk_at dksX3_ahead_0 14 rfl rfl)
theorem dX3_ahead_15 : decode cX3_ahead 15 = .ok (.iload_n 1, 1) := dk_27 (dk_at dksX3_ahead_0 15 rfl rfl)
theorem dX3_ahead_16 : decode cX3_ahead 16 = .ok (.iconst 0, 1) := dk_3 (dk_at dksX3_ahead_0 16 rfl rfl)
theorem dX3_ahead_17 : decode cX3_ahead 17 = .ok (.invokevirtual 271, 3) := dk_182 1 15 (dk_at dksX3_ahead_0 17 rfl rfl)
theorem dX3_ahead_20 : decode cX3_ahead 20 = .ok (.goto 4, 3) := dk_167 0 4 (dk_at dksX3_ahead_0 20 rfl rfl)
theorem dX3_ahead_23 : decode cX3_ahead 23 = .ok (.iconst 0, 1) := dk_3 (dk_at dksX3_ahead_0 23 rfl rfl)
theorem dX3_ahead_24 : decode cX3_ahead 24 = .ok (.ireturn, 1) := dk_172 (dk_at dksX3_ahead_1 0 rfl rfl)
abbrev cX3_parts : ByteArray := prog_13_method_84_code
def yX3_parts : MethodName := ⟨RX3, "parts", "()I"⟩
def dkwX3_parts_5 : List UInt8 := [42, 27, 182, 0, 237, 172]
abbrev dktX3_parts_5 : List UInt8 := dkwX3_parts_5 ++ []
def dkwX3_parts_4 : List UInt8 := [132, 4, 1, 167, 255, 201, 27, 29, 153, 0, 7, 4, 167, 0, 4, 3, 96, 60, 132, 2, 1, 167, 255, 147]
abbrev dktX3_parts_4 : List UInt8 := dkwX3_parts_4 ++ dktX3_parts_5
def dkwX3_parts_3 : List UInt8 := [17, 0, 192, 28, 96, 17, 0, 192, 21, 4, 96, 182, 1, 19, 154, 0, 7, 4, 167, 0, 4, 3, 62]
abbrev dktX3_parts_3 : List UInt8 := dkwX3_parts_3 ++ dktX3_parts_4
def dkwX3_parts_2 : List UInt8 := [153, 0, 51, 21, 4, 16, 24, 112, 42, 180, 0, 60, 21, 4, 16, 24, 108, 46, 162, 0, 21, 42]
abbrev dktX3_parts_2 : List UInt8 := dkwX3_parts_2 ++ dktX3_parts_3
def dkwX3_parts_1 : List UInt8 := [16, 24, 108, 46, 162, 0, 7, 4, 167, 0, 4, 3, 62, 3, 54, 4, 21, 4, 28, 162, 0, 55, 29]
abbrev dktX3_parts_1 : List UInt8 := dkwX3_parts_1 ++ dktX3_parts_2
def dkwX3_parts_0 : List UInt8 := [3, 60, 3, 61, 28, 16, 24, 42, 180, 0, 94, 104, 162, 0, 104, 28, 16, 24, 112, 42, 180, 0, 60, 28]
abbrev dktX3_parts_0 : List UInt8 := dkwX3_parts_0 ++ dktX3_parts_1
theorem dksX3_parts_0 : cX3_parts.data.toList.drop 0 = dktX3_parts_0 := by decide +kernel
theorem dksX3_parts_1 : cX3_parts.data.toList.drop 24 = dktX3_parts_1 := dk_seg dksX3_parts_0 24 rfl rfl
theorem dksX3_parts_2 : cX3_parts.data.toList.drop 47 = dktX3_parts_2 := dk_seg dksX3_parts_1 23 rfl rfl
theorem dksX3_parts_3 : cX3_parts.data.toList.drop 69 = dktX3_parts_3 := dk_seg dksX3_parts_2 22 rfl rfl
theorem dksX3_parts_4 : cX3_parts.data.toList.drop 92 = dktX3_parts_4 := dk_seg dksX3_parts_3 23 rfl rfl
theorem dksX3_parts_5 : cX3_parts.data.toList.drop 116 = dktX3_parts_5 := dk_seg dksX3_parts_4 24 rfl rfl
theorem dX3_parts_0 : decode cX3_parts 0 = .ok (.iconst 0, 1) := dk_3 (dk_at dksX3_parts_0 0 rfl rfl)
theorem dX3_parts_1 : decode cX3_parts 1 = .ok (.istore_n 1, 1) := dk_60 (dk_at dksX3_parts_0 1 rfl rfl)
theorem dX3_parts_2 : decode cX3_parts 2 = .ok (.iconst 0, 1) := dk_3 (dk_at dksX3_parts_0 2 rfl rfl)
theorem dX3_parts_3 : decode cX3_parts 3 = .ok (.istore_n 2, 1) := dk_61 (dk_at dksX3_parts_0 3 rfl rfl)
theorem dX3_parts_4 : decode cX3_parts 4 = .ok (.iload_n 2, 1) := dk_28 (dk_at dksX3_parts_0 4 rfl rfl)
theorem dX3_parts_5 : decode cX3_parts 5 = .ok (.bipush 24, 2) := dk_16 24 (dk_at dksX3_parts_0 5 rfl rfl)
theorem dX3_parts_7 : decode cX3_parts 7 = .ok (.aload_n 0, 1) := dk_42 (dk_at dksX3_parts_0 7 rfl rfl)
theorem dX3_parts_8 : decode cX3_parts 8 = .ok (.getfield 94, 3) := dk_180 0 94 (dk_at dksX3_parts_0 8 rfl rfl)
theorem dX3_parts_11 : decode cX3_parts 11 = .ok (.imul, 1) := dk_104 (dk_at dksX3_parts_0 11 rfl rfl)
theorem dX3_parts_12 : decode cX3_parts 12 = .ok (.if_icmp .ge 104, 3) := dk_162 0 104 (dk_at dksX3_parts_0 12 rfl rfl)
theorem dX3_parts_15 : decode cX3_parts 15 = .ok (.iload_n 2, 1) := dk_28 (dk_at dksX3_parts_0 15 rfl rfl)
theorem dX3_parts_16 : decode cX3_parts 16 = .ok (.bipush 24, 2) := dk_16 24 (dk_at dksX3_parts_0 16 rfl rfl)
theorem dX3_parts_18 : decode cX3_parts 18 = .ok (.irem, 1) := dk_112 (dk_at dksX3_parts_0 18 rfl rfl)
theorem dX3_parts_19 : decode cX3_parts 19 = .ok (.aload_n 0, 1) := dk_42 (dk_at dksX3_parts_0 19 rfl rfl)
theorem dX3_parts_20 : decode cX3_parts 20 = .ok (.getfield 60, 3) := dk_180 0 60 (dk_at dksX3_parts_0 20 rfl rfl)
theorem dX3_parts_23 : decode cX3_parts 23 = .ok (.iload_n 2, 1) := dk_28 (dk_at dksX3_parts_0 23 rfl rfl)
theorem dX3_parts_24 : decode cX3_parts 24 = .ok (.bipush 24, 2) := dk_16 24 (dk_at dksX3_parts_1 0 rfl rfl)
theorem dX3_parts_26 : decode cX3_parts 26 = .ok (.idiv, 1) := dk_108 (dk_at dksX3_parts_1 2 rfl rfl)
theorem dX3_parts_27 : decode cX3_parts 27 = .ok (.iaload, 1) := dk_46 (dk_at dksX3_parts_1 3 rfl rfl)
theorem dX3_parts_28 : decode cX3_parts 28 = .ok (.if_icmp .ge 7, 3) := dk_162 0 7 (dk_at dksX3_parts_1 4 rfl rfl)
theorem dX3_parts_31 : decode cX3_parts 31 = .ok (.iconst 1, 1) := dk_4 (dk_at dksX3_parts_1 7 rfl rfl)
theorem dX3_parts_32 : decode cX3_parts 32 = .ok (.goto 4, 3) := dk_167 0 4 (dk_at dksX3_parts_1 8 rfl rfl)
theorem dX3_parts_35 : decode cX3_parts 35 = .ok (.iconst 0, 1) := dk_3 (dk_at dksX3_parts_1 11 rfl rfl)
theorem dX3_parts_36 : decode cX3_parts 36 = .ok (.istore_n 3, 1) := dk_62 (dk_at dksX3_parts_1 12 rfl rfl)
theorem dX3_parts_37 : decode cX3_parts 37 = .ok (.iconst 0, 1) := dk_3 (dk_at dksX3_parts_1 13 rfl rfl)
theorem dX3_parts_38 : decode cX3_parts 38 = .ok (.istore 4, 2) := dk_54 4 (dk_at dksX3_parts_1 14 rfl rfl)
theorem dX3_parts_40 : decode cX3_parts 40 = .ok (.iload 4, 2) := dk_21 4 (dk_at dksX3_parts_1 16 rfl rfl)
theorem dX3_parts_42 : decode cX3_parts 42 = .ok (.iload_n 2, 1) := dk_28 (dk_at dksX3_parts_1 18 rfl rfl)
theorem dX3_parts_43 : decode cX3_parts 43 = .ok (.if_icmp .ge 55, 3) := dk_162 0 55 (dk_at dksX3_parts_1 19 rfl rfl)
theorem dX3_parts_46 : decode cX3_parts 46 = .ok (.iload_n 3, 1) := dk_29 (dk_at dksX3_parts_1 22 rfl rfl)
theorem dX3_parts_47 : decode cX3_parts 47 = .ok (.ifCond .eq 51, 3) := dk_153 0 51 (dk_at dksX3_parts_2 0 rfl rfl)
theorem dX3_parts_50 : decode cX3_parts 50 = .ok (.iload 4, 2) := dk_21 4 (dk_at dksX3_parts_2 3 rfl rfl)
theorem dX3_parts_52 : decode cX3_parts 52 = .ok (.bipush 24, 2) := dk_16 24 (dk_at dksX3_parts_2 5 rfl rfl)
theorem dX3_parts_54 : decode cX3_parts 54 = .ok (.irem, 1) := dk_112 (dk_at dksX3_parts_2 7 rfl rfl)
theorem dX3_parts_55 : decode cX3_parts 55 = .ok (.aload_n 0, 1) := dk_42 (dk_at dksX3_parts_2 8 rfl rfl)
theorem dX3_parts_56 : decode cX3_parts 56 = .ok (.getfield 60, 3) := dk_180 0 60 (dk_at dksX3_parts_2 9 rfl rfl)
theorem dX3_parts_59 : decode cX3_parts 59 = .ok (.iload 4, 2) := dk_21 4 (dk_at dksX3_parts_2 12 rfl rfl)
theorem dX3_parts_61 : decode cX3_parts 61 = .ok (.bipush 24, 2) := dk_16 24 (dk_at dksX3_parts_2 14 rfl rfl)
theorem dX3_parts_63 : decode cX3_parts 63 = .ok (.idiv, 1) := dk_108 (dk_at dksX3_parts_2 16 rfl rfl)
theorem dX3_parts_64 : decode cX3_parts 64 = .ok (.iaload, 1) := dk_46 (dk_at dksX3_parts_2 17 rfl rfl)
theorem dX3_parts_65 : decode cX3_parts 65 = .ok (.if_icmp .ge 21, 3) := dk_162 0 21 (dk_at dksX3_parts_2 18 rfl rfl)
theorem dX3_parts_68 : decode cX3_parts 68 = .ok (.aload_n 0, 1) := dk_42 (dk_at dksX3_parts_2 21 rfl rfl)
theorem dX3_parts_69 : decode cX3_parts 69 = .ok (.sipush 192, 3) := dk_17 0 192 (dk_at dksX3_parts_3 0 rfl rfl)
theorem dX3_parts_72 : decode cX3_parts 72 = .ok (.iload_n 2, 1) := dk_28 (dk_at dksX3_parts_3 3 rfl rfl)
theorem dX3_parts_73 : decode cX3_parts 73 = .ok (.iadd, 1) := dk_96 (dk_at dksX3_parts_3 4 rfl rfl)
theorem dX3_parts_74 : decode cX3_parts 74 = .ok (.sipush 192, 3) := dk_17 0 192 (dk_at dksX3_parts_3 5 rfl rfl)
theorem dX3_parts_77 : decode cX3_parts 77 = .ok (.iload 4, 2) := dk_21 4 (dk_at dksX3_parts_3 8 rfl rfl)
theorem dX3_parts_79 : decode cX3_parts 79 = .ok (.iadd, 1) := dk_96 (dk_at dksX3_parts_3 10 rfl rfl)
theorem dX3_parts_80 : decode cX3_parts 80 = .ok (.invokevirtual 275, 3) := dk_182 1 19 (dk_at dksX3_parts_3 11 rfl rfl)
theorem dX3_parts_83 : decode cX3_parts 83 = .ok (.ifCond .ne 7, 3) := dk_154 0 7 (dk_at dksX3_parts_3 14 rfl rfl)
theorem dX3_parts_86 : decode cX3_parts 86 = .ok (.iconst 1, 1) := dk_4 (dk_at dksX3_parts_3 17 rfl rfl)
theorem dX3_parts_87 : decode cX3_parts 87 = .ok (.goto 4, 3) := dk_167 0 4 (dk_at dksX3_parts_3 18 rfl rfl)
theorem dX3_parts_90 : decode cX3_parts 90 = .ok (.iconst 0, 1) := dk_3 (dk_at dksX3_parts_3 21 rfl rfl)
theorem dX3_parts_91 : decode cX3_parts 91 = .ok (.istore_n 3, 1) := dk_62 (dk_at dksX3_parts_3 22 rfl rfl)
theorem dX3_parts_92 : decode cX3_parts 92 = .ok (.iinc 4 1, 3) := dk_132 4 1 (dk_at dksX3_parts_4 0 rfl rfl)
theorem dX3_parts_95 : decode cX3_parts 95 = .ok (.goto (-55), 3) := dk_167 255 201 (dk_at dksX3_parts_4 3 rfl rfl)
theorem dX3_parts_98 : decode cX3_parts 98 = .ok (.iload_n 1, 1) := dk_27 (dk_at dksX3_parts_4 6 rfl rfl)
theorem dX3_parts_99 : decode cX3_parts 99 = .ok (.iload_n 3, 1) := dk_29 (dk_at dksX3_parts_4 7 rfl rfl)
theorem dX3_parts_100 : decode cX3_parts 100 = .ok (.ifCond .eq 7, 3) := dk_153 0 7 (dk_at dksX3_parts_4 8 rfl rfl)
theorem dX3_parts_103 : decode cX3_parts 103 = .ok (.iconst 1, 1) := dk_4 (dk_at dksX3_parts_4 11 rfl rfl)
theorem dX3_parts_104 : decode cX3_parts 104 = .ok (.goto 4, 3) := dk_167 0 4 (dk_at dksX3_parts_4 12 rfl rfl)
theorem dX3_parts_107 : decode cX3_parts 107 = .ok (.iconst 0, 1) := dk_3 (dk_at dksX3_parts_4 15 rfl rfl)
theorem dX3_parts_108 : decode cX3_parts 108 = .ok (.iadd, 1) := dk_96 (dk_at dksX3_parts_4 16 rfl rfl)
theorem dX3_parts_109 : decode cX3_parts 109 = .ok (.istore_n 1, 1) := dk_60 (dk_at dksX3_parts_4 17 rfl rfl)
theorem dX3_parts_110 : decode cX3_parts 110 = .ok (.iinc 2 1, 3) := dk_132 2 1 (dk_at dksX3_parts_4 18 rfl rfl)
theorem dX3_parts_113 : decode cX3_parts 113 = .ok (.goto (-109), 3) := dk_167 255 147 (dk_at dksX3_parts_4 21 rfl rfl)
theorem dX3_parts_116 : decode cX3_parts 116 = .ok (.aload_n 0, 1) := dk_42 (dk_at dksX3_parts_5 0 rfl rfl)
theorem dX3_parts_117 : decode cX3_parts 117 = .ok (.iload_n 1, 1) := dk_27 (dk_at dksX3_parts_5 1 rfl rfl)
theorem dX3_parts_118 : decode cX3_parts 118 = .ok (.invokevirtual 237, 3) := dk_182 0 237 (dk_at dksX3_parts_5 2 rfl rfl)
theorem dX3_parts_121 : decode cX3_parts 121 = .ok (.ireturn, 1) := dk_172 (dk_at dksX3_parts_5 5 rfl rfl)
abbrev cX3_areSame : ByteArray := prog_13_method_83_code
def yX3_areSame : MethodName := ⟨RX3, "areSame", "(II)Z"⟩
def dkwX3_areSame_4 : List UInt8 := [28, 21, 4, 100, 46, 160, 0, 7, 4, 167, 0, 4, 3, 62, 132, 4, 1, 167, 255, 169, 29, 172]
abbrev dktX3_areSame_4 : List UInt8 := dkwX3_areSame_4 ++ []
def dkwX3_areSame_3 : List UInt8 := [180, 0, 45, 28, 21, 4, 100, 46, 160, 0, 28, 42, 180, 0, 48, 27, 21, 4, 100, 46, 42, 180, 0, 48]
abbrev dktX3_areSame_3 : List UInt8 := dkwX3_areSame_3 ++ dktX3_areSame_4
def dkwX3_areSame_2 : List UInt8 := [42, 180, 0, 42, 28, 21, 4, 100, 46, 160, 0, 49, 42, 180, 0, 45, 27, 21, 4, 100, 46, 42]
abbrev dktX3_areSame_2 : List UInt8 := dkwX3_areSame_2 ++ dktX3_areSame_3
def dkwX3_areSame_1 : List UInt8 := [21, 4, 42, 180, 0, 51, 27, 46, 162, 0, 82, 29, 153, 0, 78, 42, 180, 0, 42, 27, 21, 4, 100, 46]
abbrev dktX3_areSame_1 : List UInt8 := dkwX3_areSame_1 ++ dktX3_areSame_2
def dkwX3_areSame_0 : List UInt8 := [42, 180, 0, 51, 27, 46, 42, 180, 0, 51, 28, 46, 160, 0, 7, 4, 167, 0, 4, 3, 62, 3, 54, 4]
abbrev dktX3_areSame_0 : List UInt8 := dkwX3_areSame_0 ++ dktX3_areSame_1
theorem dksX3_areSame_0 : cX3_areSame.data.toList.drop 0 = dktX3_areSame_0 := by decide +kernel
theorem dksX3_areSame_1 : cX3_areSame.data.toList.drop 24 = dktX3_areSame_1 := dk_seg dksX3_areSame_0 24 rfl rfl
theorem dksX3_areSame_2 : cX3_areSame.data.toList.drop 48 = dktX3_areSame_2 := dk_seg dksX3_areSame_1 24 rfl rfl
theorem dksX3_areSame_3 : cX3_areSame.data.toList.drop 70 = dktX3_areSame_3 := dk_seg dksX3_areSame_2 22 rfl rfl
theorem dksX3_areSame_4 : cX3_areSame.data.toList.drop 94 = dktX3_areSame_4 := dk_seg dksX3_areSame_3 24 rfl rfl
theorem dX3_areSame_0 : decode cX3_areSame 0 = .ok (.aload_n 0, 1) := dk_42 (dk_at dksX3_areSame_0 0 rfl rfl)
theorem dX3_areSame_1 : decode cX3_areSame 1 = .ok (.getfield 51, 3) := dk_180 0 51 (dk_at dksX3_areSame_0 1 rfl rfl)
theorem dX3_areSame_4 : decode cX3_areSame 4 = .ok (.iload_n 1, 1) := dk_27 (dk_at dksX3_areSame_0 4 rfl rfl)
theorem dX3_areSame_5 : decode cX3_areSame 5 = .ok (.iaload, 1) := dk_46 (dk_at dksX3_areSame_0 5 rfl rfl)
theorem dX3_areSame_6 : decode cX3_areSame 6 = .ok (.aload_n 0, 1) := dk_42 (dk_at dksX3_areSame_0 6 rfl rfl)
theorem dX3_areSame_7 : decode cX3_areSame 7 = .ok (.getfield 51, 3) := dk_180 0 51 (dk_at dksX3_areSame_0 7 rfl rfl)
theorem dX3_areSame_10 : decode cX3_areSame 10 = .ok (.iload_n 2, 1) := dk_28 (dk_at dksX3_areSame_0 10 rfl rfl)
theorem dX3_areSame_11 : decode cX3_areSame 11 = .ok (.iaload, 1) := dk_46 (dk_at dksX3_areSame_0 11 rfl rfl)
theorem dX3_areSame_12 : decode cX3_areSame 12 = .ok (.if_icmp .ne 7, 3) := dk_160 0 7 (dk_at dksX3_areSame_0 12 rfl rfl)
theorem dX3_areSame_15 : decode cX3_areSame 15 = .ok (.iconst 1, 1) := dk_4 (dk_at dksX3_areSame_0 15 rfl rfl)
theorem dX3_areSame_16 : decode cX3_areSame 16 = .ok (.goto 4, 3) := dk_167 0 4 (dk_at dksX3_areSame_0 16 rfl rfl)
theorem dX3_areSame_19 : decode cX3_areSame 19 = .ok (.iconst 0, 1) := dk_3 (dk_at dksX3_areSame_0 19 rfl rfl)
theorem dX3_areSame_20 : decode cX3_areSame 20 = .ok (.istore_n 3, 1) := dk_62 (dk_at dksX3_areSame_0 20 rfl rfl)
theorem dX3_areSame_21 : decode cX3_areSame 21 = .ok (.iconst 0, 1) := dk_3 (dk_at dksX3_areSame_0 21 rfl rfl)
theorem dX3_areSame_22 : decode cX3_areSame 22 = .ok (.istore 4, 2) := dk_54 4 (dk_at dksX3_areSame_0 22 rfl rfl)
theorem dX3_areSame_24 : decode cX3_areSame 24 = .ok (.iload 4, 2) := dk_21 4 (dk_at dksX3_areSame_1 0 rfl rfl)
theorem dX3_areSame_26 : decode cX3_areSame 26 = .ok (.aload_n 0, 1) := dk_42 (dk_at dksX3_areSame_1 2 rfl rfl)
theorem dX3_areSame_27 : decode cX3_areSame 27 = .ok (.getfield 51, 3) := dk_180 0 51 (dk_at dksX3_areSame_1 3 rfl rfl)
theorem dX3_areSame_30 : decode cX3_areSame 30 = .ok (.iload_n 1, 1) := dk_27 (dk_at dksX3_areSame_1 6 rfl rfl)
theorem dX3_areSame_31 : decode cX3_areSame 31 = .ok (.iaload, 1) := dk_46 (dk_at dksX3_areSame_1 7 rfl rfl)
theorem dX3_areSame_32 : decode cX3_areSame 32 = .ok (.if_icmp .ge 82, 3) := dk_162 0 82 (dk_at dksX3_areSame_1 8 rfl rfl)
theorem dX3_areSame_35 : decode cX3_areSame 35 = .ok (.iload_n 3, 1) := dk_29 (dk_at dksX3_areSame_1 11 rfl rfl)
theorem dX3_areSame_36 : decode cX3_areSame 36 = .ok (.ifCond .eq 78, 3) := dk_153 0 78 (dk_at dksX3_areSame_1 12 rfl rfl)
theorem dX3_areSame_39 : decode cX3_areSame 39 = .ok (.aload_n 0, 1) := dk_42 (dk_at dksX3_areSame_1 15 rfl rfl)
theorem dX3_areSame_40 : decode cX3_areSame 40 = .ok (.getfield 42, 3) := dk_180 0 42 (dk_at dksX3_areSame_1 16 rfl rfl)
theorem dX3_areSame_43 : decode cX3_areSame 43 = .ok (.iload_n 1, 1) := dk_27 (dk_at dksX3_areSame_1 19 rfl rfl)
theorem dX3_areSame_44 : decode cX3_areSame 44 = .ok (.iload 4, 2) := dk_21 4 (dk_at dksX3_areSame_1 20 rfl rfl)
theorem dX3_areSame_46 : decode cX3_areSame 46 = .ok (.isub, 1) := dk_100 (dk_at dksX3_areSame_1 22 rfl rfl)
theorem dX3_areSame_47 : decode cX3_areSame 47 = .ok (.iaload, 1) := dk_46 (dk_at dksX3_areSame_1 23 rfl rfl)
theorem dX3_areSame_48 : decode cX3_areSame 48 = .ok (.aload_n 0, 1) := dk_42 (dk_at dksX3_areSame_2 0 rfl rfl)
theorem dX3_areSame_49 : decode cX3_areSame 49 = .ok (.getfield 42, 3) := dk_180 0 42 (dk_at dksX3_areSame_2 1 rfl rfl)
theorem dX3_areSame_52 : decode cX3_areSame 52 = .ok (.iload_n 2, 1) := dk_28 (dk_at dksX3_areSame_2 4 rfl rfl)
theorem dX3_areSame_53 : decode cX3_areSame 53 = .ok (.iload 4, 2) := dk_21 4 (dk_at dksX3_areSame_2 5 rfl rfl)
theorem dX3_areSame_55 : decode cX3_areSame 55 = .ok (.isub, 1) := dk_100 (dk_at dksX3_areSame_2 7 rfl rfl)
theorem dX3_areSame_56 : decode cX3_areSame 56 = .ok (.iaload, 1) := dk_46 (dk_at dksX3_areSame_2 8 rfl rfl)
theorem dX3_areSame_57 : decode cX3_areSame 57 = .ok (.if_icmp .ne 49, 3) := dk_160 0 49 (dk_at dksX3_areSame_2 9 rfl rfl)
theorem dX3_areSame_60 : decode cX3_areSame 60 = .ok (.aload_n 0, 1) := dk_42 (dk_at dksX3_areSame_2 12 rfl rfl)
theorem dX3_areSame_61 : decode cX3_areSame 61 = .ok (.getfield 45, 3) := dk_180 0 45 (dk_at dksX3_areSame_2 13 rfl rfl)
theorem dX3_areSame_64 : decode cX3_areSame 64 = .ok (.iload_n 1, 1) := dk_27 (dk_at dksX3_areSame_2 16 rfl rfl)
theorem dX3_areSame_65 : decode cX3_areSame 65 = .ok (.iload 4, 2) := dk_21 4 (dk_at dksX3_areSame_2 17 rfl rfl)
theorem dX3_areSame_67 : decode cX3_areSame 67 = .ok (.isub, 1) := dk_100 (dk_at dksX3_areSame_2 19 rfl rfl)
theorem dX3_areSame_68 : decode cX3_areSame 68 = .ok (.iaload, 1) := dk_46 (dk_at dksX3_areSame_2 20 rfl rfl)
theorem dX3_areSame_69 : decode cX3_areSame 69 = .ok (.aload_n 0, 1) := dk_42 (dk_at dksX3_areSame_2 21 rfl rfl)
theorem dX3_areSame_70 : decode cX3_areSame 70 = .ok (.getfield 45, 3) := dk_180 0 45 (dk_at dksX3_areSame_3 0 rfl rfl)
theorem dX3_areSame_73 : decode cX3_areSame 73 = .ok (.iload_n 2, 1) := dk_28 (dk_at dksX3_areSame_3 3 rfl rfl)
theorem dX3_areSame_74 : decode cX3_areSame 74 = .ok (.iload 4, 2) := dk_21 4 (dk_at dksX3_areSame_3 4 rfl rfl)
theorem dX3_areSame_76 : decode cX3_areSame 76 = .ok (.isub, 1) := dk_100 (dk_at dksX3_areSame_3 6 rfl rfl)
theorem dX3_areSame_77 : decode cX3_areSame 77 = .ok (.iaload, 1) := dk_46 (dk_at dksX3_areSame_3 7 rfl rfl)
theorem dX3_areSame_78 : decode cX3_areSame 78 = .ok (.if_icmp .ne 28, 3) := dk_160 0 28 (dk_at dksX3_areSame_3 8 rfl rfl)
theorem dX3_areSame_81 : decode cX3_areSame 81 = .ok (.aload_n 0, 1) := dk_42 (dk_at dksX3_areSame_3 11 rfl rfl)
theorem dX3_areSame_82 : decode cX3_areSame 82 = .ok (.getfield 48, 3) := dk_180 0 48 (dk_at dksX3_areSame_3 12 rfl rfl)
theorem dX3_areSame_85 : decode cX3_areSame 85 = .ok (.iload_n 1, 1) := dk_27 (dk_at dksX3_areSame_3 15 rfl rfl)
theorem dX3_areSame_86 : decode cX3_areSame 86 = .ok (.iload 4, 2) := dk_21 4 (dk_at dksX3_areSame_3 16 rfl rfl)
theorem dX3_areSame_88 : decode cX3_areSame 88 = .ok (.isub, 1) := dk_100 (dk_at dksX3_areSame_3 18 rfl rfl)
theorem dX3_areSame_89 : decode cX3_areSame 89 = .ok (.iaload, 1) := dk_46 (dk_at dksX3_areSame_3 19 rfl rfl)
theorem dX3_areSame_90 : decode cX3_areSame 90 = .ok (.aload_n 0, 1) := dk_42 (dk_at dksX3_areSame_3 20 rfl rfl)
theorem dX3_areSame_91 : decode cX3_areSame 91 = .ok (.getfield 48, 3) := dk_180 0 48 (dk_at dksX3_areSame_3 21 rfl rfl)
theorem dX3_areSame_94 : decode cX3_areSame 94 = .ok (.iload_n 2, 1) := dk_28 (dk_at dksX3_areSame_4 0 rfl rfl)
theorem dX3_areSame_95 : decode cX3_areSame 95 = .ok (.iload 4, 2) := dk_21 4 (dk_at dksX3_areSame_4 1 rfl rfl)
theorem dX3_areSame_97 : decode cX3_areSame 97 = .ok (.isub, 1) := dk_100 (dk_at dksX3_areSame_4 3 rfl rfl)
theorem dX3_areSame_98 : decode cX3_areSame 98 = .ok (.iaload, 1) := dk_46 (dk_at dksX3_areSame_4 4 rfl rfl)
theorem dX3_areSame_99 : decode cX3_areSame 99 = .ok (.if_icmp .ne 7, 3) := dk_160 0 7 (dk_at dksX3_areSame_4 5 rfl rfl)
theorem dX3_areSame_102 : decode cX3_areSame 102 = .ok (.iconst 1, 1) := dk_4 (dk_at dksX3_areSame_4 8 rfl rfl)
theorem dX3_areSame_103 : decode cX3_areSame 103 = .ok (.goto 4, 3) := dk_167 0 4 (dk_at dksX3_areSame_4 9 rfl rfl)
theorem dX3_areSame_106 : decode cX3_areSame 106 = .ok (.iconst 0, 1) := dk_3 (dk_at dksX3_areSame_4 12 rfl rfl)
theorem dX3_areSame_107 : decode cX3_areSame 107 = .ok (.istore_n 3, 1) := dk_62 (dk_at dksX3_areSame_4 13 rfl rfl)
theorem dX3_areSame_108 : decode cX3_areSame 108 = .ok (.iinc 4 1, 3) := dk_132 4 1 (dk_at dksX3_areSame_4 14 rfl rfl)
theorem dX3_areSame_111 : decode cX3_areSame 111 = .ok (.goto (-87), 3) := dk_167 255 169 (dk_at dksX3_areSame_4 17 rfl rfl)
theorem dX3_areSame_114 : decode cX3_areSame 114 = .ok (.iload_n 3, 1) := dk_29 (dk_at dksX3_areSame_4 20 rfl rfl)
theorem dX3_areSame_115 : decode cX3_areSame 115 = .ok (.ireturn, 1) := dk_172 (dk_at dksX3_areSame_4 21 rfl rfl)
abbrev cX3_orders : ByteArray := prog_13_method_89_code
def yX3_orders : MethodName := ⟨RX3, "orders", "()I"⟩
def dkwX3_orders_0 : List UInt8 := [42, 42, 182, 1, 38, 182, 0, 237, 172]
abbrev dktX3_orders_0 : List UInt8 := dkwX3_orders_0 ++ []
theorem dksX3_orders_0 : cX3_orders.data.toList.drop 0 = dktX3_orders_0 := by decide +kernel
theorem dX3_orders_0 : decode cX3_orders 0 = .ok (.aload_n 0, 1) := dk_42 (dk_at dksX3_orders_0 0 rfl rfl)
theorem dX3_orders_1 : decode cX3_orders 1 = .ok (.aload_n 0, 1) := dk_42 (dk_at dksX3_orders_0 1 rfl rfl)
theorem dX3_orders_2 : decode cX3_orders 2 = .ok (.invokevirtual 294, 3) := dk_182 1 38 (dk_at dksX3_orders_0 2 rfl rfl)
theorem dX3_orders_5 : decode cX3_orders 5 = .ok (.invokevirtual 237, 3) := dk_182 0 237 (dk_at dksX3_orders_0 5 rfl rfl)
theorem dX3_orders_8 : decode cX3_orders 8 = .ok (.ireturn, 1) := dk_172 (dk_at dksX3_orders_0 8 rfl rfl)
abbrev cX3_ordersOf : ByteArray := prog_13_method_88_code
def yX3_ordersOf : MethodName := ⟨RX3, "ordersOf", "()I"⟩
def dkwX3_ordersOf_3 : List UInt8 := [64, 21, 4, 62, 167, 255, 184, 31, 136, 172]
abbrev dktX3_ordersOf_3 : List UInt8 := dkwX3_ordersOf_3 ++ []
def dkwX3_ordersOf_2 : List UInt8 := [6, 182, 1, 27, 184, 1, 30, 105, 64, 31, 20, 1, 34, 148, 158, 0, 9, 20, 1, 36, 167, 0, 4, 31]
abbrev dktX3_ordersOf_2 : List UInt8 := dkwX3_ordersOf_2 ++ dktX3_ordersOf_3
def dkwX3_ordersOf_1 : List UInt8 := [3, 182, 1, 27, 42, 29, 21, 4, 4, 182, 1, 27, 42, 29, 21, 4, 5, 182, 1, 27, 42, 29, 21, 4]
abbrev dktX3_ordersOf_1 : List UInt8 := dkwX3_ordersOf_1 ++ dktX3_ordersOf_2
def dkwX3_ordersOf_0 : List UInt8 := [10, 64, 3, 62, 29, 42, 180, 0, 91, 162, 0, 70, 42, 29, 182, 1, 24, 54, 4, 31, 42, 29, 21, 4]
abbrev dktX3_ordersOf_0 : List UInt8 := dkwX3_ordersOf_0 ++ dktX3_ordersOf_1
theorem dksX3_ordersOf_0 : cX3_ordersOf.data.toList.drop 0 = dktX3_ordersOf_0 := by decide +kernel
theorem dksX3_ordersOf_1 : cX3_ordersOf.data.toList.drop 24 = dktX3_ordersOf_1 := dk_seg dksX3_ordersOf_0 24 rfl rfl
theorem dksX3_ordersOf_2 : cX3_ordersOf.data.toList.drop 48 = dktX3_ordersOf_2 := dk_seg dksX3_ordersOf_1 24 rfl rfl
theorem dksX3_ordersOf_3 : cX3_ordersOf.data.toList.drop 72 = dktX3_ordersOf_3 := dk_seg dksX3_ordersOf_2 24 rfl rfl
theorem dX3_ordersOf_0 : decode cX3_ordersOf 0 = .ok (.lconst 1, 1) := dk_10 (dk_at dksX3_ordersOf_0 0 rfl rfl)
theorem dX3_ordersOf_1 : decode cX3_ordersOf 1 = .ok (.lstore_n 1, 1) := dk_64 (dk_at dksX3_ordersOf_0 1 rfl rfl)
theorem dX3_ordersOf_2 : decode cX3_ordersOf 2 = .ok (.iconst 0, 1) := dk_3 (dk_at dksX3_ordersOf_0 2 rfl rfl)
theorem dX3_ordersOf_3 : decode cX3_ordersOf 3 = .ok (.istore_n 3, 1) := dk_62 (dk_at dksX3_ordersOf_0 3 rfl rfl)
theorem dX3_ordersOf_4 : decode cX3_ordersOf 4 = .ok (.iload_n 3, 1) := dk_29 (dk_at dksX3_ordersOf_0 4 rfl rfl)
theorem dX3_ordersOf_5 : decode cX3_ordersOf 5 = .ok (.aload_n 0, 1) := dk_42 (dk_at dksX3_ordersOf_0 5 rfl rfl)
theorem dX3_ordersOf_6 : decode cX3_ordersOf 6 = .ok (.getfield 91, 3) := dk_180 0 91 (dk_at dksX3_ordersOf_0 6 rfl rfl)
theorem dX3_ordersOf_9 : decode cX3_ordersOf 9 = .ok (.if_icmp .ge 70, 3) := dk_162 0 70 (dk_at dksX3_ordersOf_0 9 rfl rfl)
theorem dX3_ordersOf_12 : decode cX3_ordersOf 12 = .ok (.aload_n 0, 1) := dk_42 (dk_at dksX3_ordersOf_0 12 rfl rfl)
theorem dX3_ordersOf_13 : decode cX3_ordersOf 13 = .ok (.iload_n 3, 1) := dk_29 (dk_at dksX3_ordersOf_0 13 rfl rfl)
theorem dX3_ordersOf_14 : decode cX3_ordersOf 14 = .ok (.invokevirtual 280, 3) := dk_182 1 24 (dk_at dksX3_ordersOf_0 14 rfl rfl)
theorem dX3_ordersOf_17 : decode cX3_ordersOf 17 = .ok (.istore 4, 2) := dk_54 4 (dk_at dksX3_ordersOf_0 17 rfl rfl)
theorem dX3_ordersOf_19 : decode cX3_ordersOf 19 = .ok (.lload_n 1, 1) := dk_31 (dk_at dksX3_ordersOf_0 19 rfl rfl)
theorem dX3_ordersOf_20 : decode cX3_ordersOf 20 = .ok (.aload_n 0, 1) := dk_42 (dk_at dksX3_ordersOf_0 20 rfl rfl)
theorem dX3_ordersOf_21 : decode cX3_ordersOf 21 = .ok (.iload_n 3, 1) := dk_29 (dk_at dksX3_ordersOf_0 21 rfl rfl)
theorem dX3_ordersOf_22 : decode cX3_ordersOf 22 = .ok (.iload 4, 2) := dk_21 4 (dk_at dksX3_ordersOf_0 22 rfl rfl)
theorem dX3_ordersOf_24 : decode cX3_ordersOf 24 = .ok (.iconst 0, 1) := dk_3 (dk_at dksX3_ordersOf_1 0 rfl rfl)
theorem dX3_ordersOf_25 : decode cX3_ordersOf 25 = .ok (.invokevirtual 283, 3) := dk_182 1 27 (dk_at dksX3_ordersOf_1 1 rfl rfl)
theorem dX3_ordersOf_28 : decode cX3_ordersOf 28 = .ok (.aload_n 0, 1) := dk_42 (dk_at dksX3_ordersOf_1 4 rfl rfl)
theorem dX3_ordersOf_29 : decode cX3_ordersOf 29 = .ok (.iload_n 3, 1) := dk_29 (dk_at dksX3_ordersOf_1 5 rfl rfl)
theorem dX3_ordersOf_30 : decode cX3_ordersOf 30 = .ok (.iload 4, 2) := dk_21 4 (dk_at dksX3_ordersOf_1 6 rfl rfl)
theorem dX3_ordersOf_32 : decode cX3_ordersOf 32 = .ok (.iconst 1, 1) := dk_4 (dk_at dksX3_ordersOf_1 8 rfl rfl)
theorem dX3_ordersOf_33 : decode cX3_ordersOf 33 = .ok (.invokevirtual 283, 3) := dk_182 1 27 (dk_at dksX3_ordersOf_1 9 rfl rfl)
theorem dX3_ordersOf_36 : decode cX3_ordersOf 36 = .ok (.aload_n 0, 1) := dk_42 (dk_at dksX3_ordersOf_1 12 rfl rfl)
theorem dX3_ordersOf_37 : decode cX3_ordersOf 37 = .ok (.iload_n 3, 1) := dk_29 (dk_at dksX3_ordersOf_1 13 rfl rfl)
theorem dX3_ordersOf_38 : decode cX3_ordersOf 38 = .ok (.iload 4, 2) := dk_21 4 (dk_at dksX3_ordersOf_1 14 rfl rfl)
theorem dX3_ordersOf_40 : decode cX3_ordersOf 40 = .ok (.iconst 2, 1) := dk_5 (dk_at dksX3_ordersOf_1 16 rfl rfl)
theorem dX3_ordersOf_41 : decode cX3_ordersOf 41 = .ok (.invokevirtual 283, 3) := dk_182 1 27 (dk_at dksX3_ordersOf_1 17 rfl rfl)
theorem dX3_ordersOf_44 : decode cX3_ordersOf 44 = .ok (.aload_n 0, 1) := dk_42 (dk_at dksX3_ordersOf_1 20 rfl rfl)
theorem dX3_ordersOf_45 : decode cX3_ordersOf 45 = .ok (.iload_n 3, 1) := dk_29 (dk_at dksX3_ordersOf_1 21 rfl rfl)
theorem dX3_ordersOf_46 : decode cX3_ordersOf 46 = .ok (.iload 4, 2) := dk_21 4 (dk_at dksX3_ordersOf_1 22 rfl rfl)
theorem dX3_ordersOf_48 : decode cX3_ordersOf 48 = .ok (.iconst 3, 1) := dk_6 (dk_at dksX3_ordersOf_2 0 rfl rfl)
theorem dX3_ordersOf_49 : decode cX3_ordersOf 49 = .ok (.invokevirtual 283, 3) := dk_182 1 27 (dk_at dksX3_ordersOf_2 1 rfl rfl)
theorem dX3_ordersOf_52 : decode cX3_ordersOf 52 = .ok (.invokestatic 286, 3) := dk_184 1 30 (dk_at dksX3_ordersOf_2 4 rfl rfl)
theorem dX3_ordersOf_55 : decode cX3_ordersOf 55 = .ok (.lmul, 1) := dk_105 (dk_at dksX3_ordersOf_2 7 rfl rfl)
theorem dX3_ordersOf_56 : decode cX3_ordersOf 56 = .ok (.lstore_n 1, 1) := dk_64 (dk_at dksX3_ordersOf_2 8 rfl rfl)
theorem dX3_ordersOf_57 : decode cX3_ordersOf 57 = .ok (.lload_n 1, 1) := dk_31 (dk_at dksX3_ordersOf_2 9 rfl rfl)
theorem dX3_ordersOf_58 : decode cX3_ordersOf 58 = .ok (.ldc2_w 290, 3) := dk_20 1 34 (dk_at dksX3_ordersOf_2 10 rfl rfl)
theorem dX3_ordersOf_61 : decode cX3_ordersOf 61 = .ok (.lcmp, 1) := dk_148 (dk_at dksX3_ordersOf_2 13 rfl rfl)
theorem dX3_ordersOf_62 : decode cX3_ordersOf 62 = .ok (.ifCond .le 9, 3) := dk_158 0 9 (dk_at dksX3_ordersOf_2 14 rfl rfl)
theorem dX3_ordersOf_65 : decode cX3_ordersOf 65 = .ok (.ldc2_w 292, 3) := dk_20 1 36 (dk_at dksX3_ordersOf_2 17 rfl rfl)
theorem dX3_ordersOf_68 : decode cX3_ordersOf 68 = .ok (.goto 4, 3) := dk_167 0 4 (dk_at dksX3_ordersOf_2 20 rfl rfl)
theorem dX3_ordersOf_71 : decode cX3_ordersOf 71 = .ok (.lload_n 1, 1) := dk_31 (dk_at dksX3_ordersOf_2 23 rfl rfl)
theorem dX3_ordersOf_72 : decode cX3_ordersOf 72 = .ok (.lstore_n 1, 1) := dk_64 (dk_at dksX3_ordersOf_3 0 rfl rfl)
theorem dX3_ordersOf_73 : decode cX3_ordersOf 73 = .ok (.iload 4, 2) := dk_21 4 (dk_at dksX3_ordersOf_3 1 rfl rfl)
theorem dX3_ordersOf_75 : decode cX3_ordersOf 75 = .ok (.istore_n 3, 1) := dk_62 (dk_at dksX3_ordersOf_3 3 rfl rfl)
theorem dX3_ordersOf_76 : decode cX3_ordersOf 76 = .ok (.goto (-72), 3) := dk_167 255 184 (dk_at dksX3_ordersOf_3 4 rfl rfl)
theorem dX3_ordersOf_79 : decode cX3_ordersOf 79 = .ok (.lload_n 1, 1) := dk_31 (dk_at dksX3_ordersOf_3 7 rfl rfl)
theorem dX3_ordersOf_80 : decode cX3_ordersOf 80 = .ok (.l2i, 1) := dk_136 (dk_at dksX3_ordersOf_3 8 rfl rfl)
theorem dX3_ordersOf_81 : decode cX3_ordersOf 81 = .ok (.ireturn, 1) := dk_172 (dk_at dksX3_ordersOf_3 9 rfl rfl)
abbrev cX3_endOf : ByteArray := prog_13_method_87_code
def yX3_endOf : MethodName := ⟨RX3, "endOf", "(I)I"⟩
def dkwX3_endOf_1 : List UInt8 := [180, 0, 20, 42, 180, 0, 36, 27, 46, 46, 160, 0, 9, 132, 2, 1, 167, 255, 220, 28, 172]
abbrev dktX3_endOf_1 : List UInt8 := dkwX3_endOf_1 ++ []
def dkwX3_endOf_0 : List UInt8 := [27, 61, 28, 42, 180, 0, 91, 162, 0, 34, 42, 180, 0, 20, 42, 180, 0, 36, 28, 46, 46, 42]
abbrev dktX3_endOf_0 : List UInt8 := dkwX3_endOf_0 ++ dktX3_endOf_1
theorem dksX3_endOf_0 : cX3_endOf.data.toList.drop 0 = dktX3_endOf_0 := by decide +kernel
theorem dksX3_endOf_1 : cX3_endOf.data.toList.drop 22 = dktX3_endOf_1 := dk_seg dksX3_endOf_0 22 rfl rfl
theorem dX3_endOf_0 : decode cX3_endOf 0 = .ok (.iload_n 1, 1) := dk_27 (dk_at dksX3_endOf_0 0 rfl rfl)
theorem dX3_endOf_1 : decode cX3_endOf 1 = .ok (.istore_n 2, 1) := dk_61 (dk_at dksX3_endOf_0 1 rfl rfl)
theorem dX3_endOf_2 : decode cX3_endOf 2 = .ok (.iload_n 2, 1) := dk_28 (dk_at dksX3_endOf_0 2 rfl rfl)
theorem dX3_endOf_3 : decode cX3_endOf 3 = .ok (.aload_n 0, 1) := dk_42 (dk_at dksX3_endOf_0 3 rfl rfl)
theorem dX3_endOf_4 : decode cX3_endOf 4 = .ok (.getfield 91, 3) := dk_180 0 91 (dk_at dksX3_endOf_0 4 rfl rfl)
theorem dX3_endOf_7 : decode cX3_endOf 7 = .ok (.if_icmp .ge 34, 3) := dk_162 0 34 (dk_at dksX3_endOf_0 7 rfl rfl)
theorem dX3_endOf_10 : decode cX3_endOf 10 = .ok (.aload_n 0, 1) := dk_42 (dk_at dksX3_endOf_0 10 rfl rfl)
theorem dX3_endOf_11 : decode cX3_endOf 11 = .ok (.getfield 20, 3) := dk_180 0 20 (dk_at dksX3_endOf_0 11 rfl rfl)
theorem dX3_endOf_14 : decode cX3_endOf 14 = .ok (.aload_n 0, 1) := dk_42 (dk_at dksX3_endOf_0 14 rfl rfl)
theorem dX3_endOf_15 : decode cX3_endOf 15 = .ok (.getfield 36, 3) := dk_180 0 36 (dk_at dksX3_endOf_0 15 rfl rfl)
theorem dX3_endOf_18 : decode cX3_endOf 18 = .ok (.iload_n 2, 1) := dk_28 (dk_at dksX3_endOf_0 18 rfl rfl)
theorem dX3_endOf_19 : decode cX3_endOf 19 = .ok (.iaload, 1) := dk_46 (dk_at dksX3_endOf_0 19 rfl rfl)
theorem dX3_endOf_20 : decode cX3_endOf 20 = .ok (.iaload, 1) := dk_46 (dk_at dksX3_endOf_0 20 rfl rfl)
theorem dX3_endOf_21 : decode cX3_endOf 21 = .ok (.aload_n 0, 1) := dk_42 (dk_at dksX3_endOf_0 21 rfl rfl)
theorem dX3_endOf_22 : decode cX3_endOf 22 = .ok (.getfield 20, 3) := dk_180 0 20 (dk_at dksX3_endOf_1 0 rfl rfl)
theorem dX3_endOf_25 : decode cX3_endOf 25 = .ok (.aload_n 0, 1) := dk_42 (dk_at dksX3_endOf_1 3 rfl rfl)
theorem dX3_endOf_26 : decode cX3_endOf 26 = .ok (.getfield 36, 3) := dk_180 0 36 (dk_at dksX3_endOf_1 4 rfl rfl)
theorem dX3_endOf_29 : decode cX3_endOf 29 = .ok (.iload_n 1, 1) := dk_27 (dk_at dksX3_endOf_1 7 rfl rfl)
theorem dX3_endOf_30 : decode cX3_endOf 30 = .ok (.iaload, 1) := dk_46 (dk_at dksX3_endOf_1 8 rfl rfl)
theorem dX3_endOf_31 : decode cX3_endOf 31 = .ok (.iaload, 1) := dk_46 (dk_at dksX3_endOf_1 9 rfl rfl)
theorem dX3_endOf_32 : decode cX3_endOf 32 = .ok (.if_icmp .ne 9, 3) := dk_160 0 9 (dk_at dksX3_endOf_1 10 rfl rfl)
theorem dX3_endOf_35 : decode cX3_endOf 35 = .ok (.iinc 2 1, 3) := dk_132 2 1 (dk_at dksX3_endOf_1 13 rfl rfl)
theorem dX3_endOf_38 : decode cX3_endOf 38 = .ok (.goto (-36), 3) := dk_167 255 220 (dk_at dksX3_endOf_1 16 rfl rfl)
theorem dX3_endOf_41 : decode cX3_endOf 41 = .ok (.iload_n 2, 1) := dk_28 (dk_at dksX3_endOf_1 19 rfl rfl)
theorem dX3_endOf_42 : decode cX3_endOf 42 = .ok (.ireturn, 1) := dk_172 (dk_at dksX3_endOf_1 20 rfl rfl)
abbrev cX3_ofNode : ByteArray := prog_13_method_86_code
def yX3_ofNode : MethodName := ⟨RX3, "ofNode", "(III)I"⟩
def dkwX3_ofNode_1 : List UInt8 := [46, 46, 29, 160, 0, 7, 4, 167, 0, 4, 3, 96, 54, 4, 132, 5, 1, 167, 255, 221, 21, 4, 172]
abbrev dktX3_ofNode_1 : List UInt8 := dkwX3_ofNode_1 ++ []
def dkwX3_ofNode_0 : List UInt8 := [3, 54, 4, 27, 54, 5, 21, 5, 28, 162, 0, 35, 21, 4, 42, 180, 0, 17, 42, 180, 0, 36, 21, 5]
abbrev dktX3_ofNode_0 : List UInt8 := dkwX3_ofNode_0 ++ dktX3_ofNode_1
theorem dksX3_ofNode_0 : cX3_ofNode.data.toList.drop 0 = dktX3_ofNode_0 := by decide +kernel
theorem dksX3_ofNode_1 : cX3_ofNode.data.toList.drop 24 = dktX3_ofNode_1 := dk_seg dksX3_ofNode_0 24 rfl rfl
theorem dX3_ofNode_0 : decode cX3_ofNode 0 = .ok (.iconst 0, 1) := dk_3 (dk_at dksX3_ofNode_0 0 rfl rfl)
theorem dX3_ofNode_1 : decode cX3_ofNode 1 = .ok (.istore 4, 2) := dk_54 4 (dk_at dksX3_ofNode_0 1 rfl rfl)
theorem dX3_ofNode_3 : decode cX3_ofNode 3 = .ok (.iload_n 1, 1) := dk_27 (dk_at dksX3_ofNode_0 3 rfl rfl)
theorem dX3_ofNode_4 : decode cX3_ofNode 4 = .ok (.istore 5, 2) := dk_54 5 (dk_at dksX3_ofNode_0 4 rfl rfl)
theorem dX3_ofNode_6 : decode cX3_ofNode 6 = .ok (.iload 5, 2) := dk_21 5 (dk_at dksX3_ofNode_0 6 rfl rfl)
theorem dX3_ofNode_8 : decode cX3_ofNode 8 = .ok (.iload_n 2, 1) := dk_28 (dk_at dksX3_ofNode_0 8 rfl rfl)
theorem dX3_ofNode_9 : decode cX3_ofNode 9 = .ok (.if_icmp .ge 35, 3) := dk_162 0 35 (dk_at dksX3_ofNode_0 9 rfl rfl)
theorem dX3_ofNode_12 : decode cX3_ofNode 12 = .ok (.iload 4, 2) := dk_21 4 (dk_at dksX3_ofNode_0 12 rfl rfl)
theorem dX3_ofNode_14 : decode cX3_ofNode 14 = .ok (.aload_n 0, 1) := dk_42 (dk_at dksX3_ofNode_0 14 rfl rfl)
theorem dX3_ofNode_15 : decode cX3_ofNode 15 = .ok (.getfield 17, 3) := dk_180 0 17 (dk_at dksX3_ofNode_0 15 rfl rfl)
theorem dX3_ofNode_18 : decode cX3_ofNode 18 = .ok (.aload_n 0, 1) := dk_42 (dk_at dksX3_ofNode_0 18 rfl rfl)
theorem dX3_ofNode_19 : decode cX3_ofNode 19 = .ok (.getfield 36, 3) := dk_180 0 36 (dk_at dksX3_ofNode_0 19 rfl rfl)
theorem dX3_ofNode_22 : decode cX3_ofNode 22 = .ok (.iload 5, 2) := dk_21 5 (dk_at dksX3_ofNode_0 22 rfl rfl)
theorem dX3_ofNode_24 : decode cX3_ofNode 24 = .ok (.iaload, 1) := dk_46 (dk_at dksX3_ofNode_1 0 rfl rfl)
theorem dX3_ofNode_25 : decode cX3_ofNode 25 = .ok (.iaload, 1) := dk_46 (dk_at dksX3_ofNode_1 1 rfl rfl)
theorem dX3_ofNode_26 : decode cX3_ofNode 26 = .ok (.iload_n 3, 1) := dk_29 (dk_at dksX3_ofNode_1 2 rfl rfl)
theorem dX3_ofNode_27 : decode cX3_ofNode 27 = .ok (.if_icmp .ne 7, 3) := dk_160 0 7 (dk_at dksX3_ofNode_1 3 rfl rfl)
theorem dX3_ofNode_30 : decode cX3_ofNode 30 = .ok (.iconst 1, 1) := dk_4 (dk_at dksX3_ofNode_1 6 rfl rfl)
theorem dX3_ofNode_31 : decode cX3_ofNode 31 = .ok (.goto 4, 3) := dk_167 0 4 (dk_at dksX3_ofNode_1 7 rfl rfl)
theorem dX3_ofNode_34 : decode cX3_ofNode 34 = .ok (.iconst 0, 1) := dk_3 (dk_at dksX3_ofNode_1 10 rfl rfl)
theorem dX3_ofNode_35 : decode cX3_ofNode 35 = .ok (.iadd, 1) := dk_96 (dk_at dksX3_ofNode_1 11 rfl rfl)
theorem dX3_ofNode_36 : decode cX3_ofNode 36 = .ok (.istore 4, 2) := dk_54 4 (dk_at dksX3_ofNode_1 12 rfl rfl)
theorem dX3_ofNode_38 : decode cX3_ofNode 38 = .ok (.iinc 5 1, 3) := dk_132 5 1 (dk_at dksX3_ofNode_1 14 rfl rfl)
theorem dX3_ofNode_41 : decode cX3_ofNode 41 = .ok (.goto (-35), 3) := dk_167 255 221 (dk_at dksX3_ofNode_1 17 rfl rfl)
theorem dX3_ofNode_44 : decode cX3_ofNode 44 = .ok (.iload 4, 2) := dk_21 4 (dk_at dksX3_ofNode_1 20 rfl rfl)
theorem dX3_ofNode_46 : decode cX3_ofNode 46 = .ok (.ireturn, 1) := dk_172 (dk_at dksX3_ofNode_1 22 rfl rfl)
abbrev cX3_mixed : ByteArray := prog_13_method_85_code
def yX3_mixed : MethodName := ⟨RX3, "mixed", "(IIII)J"⟩
def dkwX3_mixed_4 : List UInt8 := [154, 0, 6, 22, 4, 173, 132, 7, 1, 167, 255, 163, 22, 4, 173]
abbrev dktX3_mixed_4 : List UInt8 := dkwX3_mixed_4 ++ []
def dkwX3_mixed_3 : List UInt8 := [20, 1, 22, 148, 158, 0, 9, 20, 1, 22, 167, 0, 5, 22, 4, 55, 4, 22, 4, 20, 1, 22, 148]
abbrev dktX3_mixed_3 : List UInt8 := dkwX3_mixed_3 ++ dktX3_mixed_4
def dkwX3_mixed_2 : List UInt8 := [21, 7, 27, 100, 28, 100, 54, 8, 22, 4, 21, 6, 133, 105, 21, 8, 133, 109, 55, 4, 22, 4]
abbrev dktX3_mixed_2 : List UInt8 := dkwX3_mixed_2 ++ dktX3_mixed_3
def dkwX3_mixed_1 : List UInt8 := [27, 163, 0, 8, 21, 7, 167, 0, 24, 21, 7, 27, 28, 96, 163, 0, 10, 21, 7, 27, 100, 167, 0, 9]
abbrev dktX3_mixed_1 : List UInt8 := dkwX3_mixed_1 ++ dktX3_mixed_2
def dkwX3_mixed_0 : List UInt8 := [10, 55, 4, 26, 54, 6, 4, 54, 7, 21, 7, 27, 28, 96, 29, 96, 163, 0, 89, 132, 6, 1, 21, 7]
abbrev dktX3_mixed_0 : List UInt8 := dkwX3_mixed_0 ++ dktX3_mixed_1
theorem dksX3_mixed_0 : cX3_mixed.data.toList.drop 0 = dktX3_mixed_0 := by decide +kernel
theorem dksX3_mixed_1 : cX3_mixed.data.toList.drop 24 = dktX3_mixed_1 := dk_seg dksX3_mixed_0 24 rfl rfl
theorem dksX3_mixed_2 : cX3_mixed.data.toList.drop 48 = dktX3_mixed_2 := dk_seg dksX3_mixed_1 24 rfl rfl
theorem dksX3_mixed_3 : cX3_mixed.data.toList.drop 70 = dktX3_mixed_3 := dk_seg dksX3_mixed_2 22 rfl rfl
theorem dksX3_mixed_4 : cX3_mixed.data.toList.drop 93 = dktX3_mixed_4 := dk_seg dksX3_mixed_3 23 rfl rfl
theorem dX3_mixed_0 : decode cX3_mixed 0 = .ok (.lconst 1, 1) := dk_10 (dk_at dksX3_mixed_0 0 rfl rfl)
theorem dX3_mixed_1 : decode cX3_mixed 1 = .ok (.lstore 4, 2) := dk_55 4 (dk_at dksX3_mixed_0 1 rfl rfl)
theorem dX3_mixed_3 : decode cX3_mixed 3 = .ok (.iload_n 0, 1) := dk_26 (dk_at dksX3_mixed_0 3 rfl rfl)
theorem dX3_mixed_4 : decode cX3_mixed 4 = .ok (.istore 6, 2) := dk_54 6 (dk_at dksX3_mixed_0 4 rfl rfl)
theorem dX3_mixed_6 : decode cX3_mixed 6 = .ok (.iconst 1, 1) := dk_4 (dk_at dksX3_mixed_0 6 rfl rfl)
theorem dX3_mixed_7 : decode cX3_mixed 7 = .ok (.istore 7, 2) := dk_54 7 (dk_at dksX3_mixed_0 7 rfl rfl)
theorem dX3_mixed_9 : decode cX3_mixed 9 = .ok (.iload 7, 2) := dk_21 7 (dk_at dksX3_mixed_0 9 rfl rfl)
theorem dX3_mixed_11 : decode cX3_mixed 11 = .ok (.iload_n 1, 1) := dk_27 (dk_at dksX3_mixed_0 11 rfl rfl)
theorem dX3_mixed_12 : decode cX3_mixed 12 = .ok (.iload_n 2, 1) := dk_28 (dk_at dksX3_mixed_0 12 rfl rfl)
theorem dX3_mixed_13 : decode cX3_mixed 13 = .ok (.iadd, 1) := dk_96 (dk_at dksX3_mixed_0 13 rfl rfl)
theorem dX3_mixed_14 : decode cX3_mixed 14 = .ok (.iload_n 3, 1) := dk_29 (dk_at dksX3_mixed_0 14 rfl rfl)
theorem dX3_mixed_15 : decode cX3_mixed 15 = .ok (.iadd, 1) := dk_96 (dk_at dksX3_mixed_0 15 rfl rfl)
theorem dX3_mixed_16 : decode cX3_mixed 16 = .ok (.if_icmp .gt 89, 3) := dk_163 0 89 (dk_at dksX3_mixed_0 16 rfl rfl)
theorem dX3_mixed_19 : decode cX3_mixed 19 = .ok (.iinc 6 1, 3) := dk_132 6 1 (dk_at dksX3_mixed_0 19 rfl rfl)
theorem dX3_mixed_22 : decode cX3_mixed 22 = .ok (.iload 7, 2) := dk_21 7 (dk_at dksX3_mixed_0 22 rfl rfl)
theorem dX3_mixed_24 : decode cX3_mixed 24 = .ok (.iload_n 1, 1) := dk_27 (dk_at dksX3_mixed_1 0 rfl rfl)
theorem dX3_mixed_25 : decode cX3_mixed 25 = .ok (.if_icmp .gt 8, 3) := dk_163 0 8 (dk_at dksX3_mixed_1 1 rfl rfl)
theorem dX3_mixed_28 : decode cX3_mixed 28 = .ok (.iload 7, 2) := dk_21 7 (dk_at dksX3_mixed_1 4 rfl rfl)
theorem dX3_mixed_30 : decode cX3_mixed 30 = .ok (.goto 24, 3) := dk_167 0 24 (dk_at dksX3_mixed_1 6 rfl rfl)
theorem dX3_mixed_33 : decode cX3_mixed 33 = .ok (.iload 7, 2) := dk_21 7 (dk_at dksX3_mixed_1 9 rfl rfl)
theorem dX3_mixed_35 : decode cX3_mixed 35 = .ok (.iload_n 1, 1) := dk_27 (dk_at dksX3_mixed_1 11 rfl rfl)
theorem dX3_mixed_36 : decode cX3_mixed 36 = .ok (.iload_n 2, 1) := dk_28 (dk_at dksX3_mixed_1 12 rfl rfl)
theorem dX3_mixed_37 : decode cX3_mixed 37 = .ok (.iadd, 1) := dk_96 (dk_at dksX3_mixed_1 13 rfl rfl)
theorem dX3_mixed_38 : decode cX3_mixed 38 = .ok (.if_icmp .gt 10, 3) := dk_163 0 10 (dk_at dksX3_mixed_1 14 rfl rfl)
theorem dX3_mixed_41 : decode cX3_mixed 41 = .ok (.iload 7, 2) := dk_21 7 (dk_at dksX3_mixed_1 17 rfl rfl)
theorem dX3_mixed_43 : decode cX3_mixed 43 = .ok (.iload_n 1, 1) := dk_27 (dk_at dksX3_mixed_1 19 rfl rfl)
theorem dX3_mixed_44 : decode cX3_mixed 44 = .ok (.isub, 1) := dk_100 (dk_at dksX3_mixed_1 20 rfl rfl)
theorem dX3_mixed_45 : decode cX3_mixed 45 = .ok (.goto 9, 3) := dk_167 0 9 (dk_at dksX3_mixed_1 21 rfl rfl)
theorem dX3_mixed_48 : decode cX3_mixed 48 = .ok (.iload 7, 2) := dk_21 7 (dk_at dksX3_mixed_2 0 rfl rfl)
theorem dX3_mixed_50 : decode cX3_mixed 50 = .ok (.iload_n 1, 1) := dk_27 (dk_at dksX3_mixed_2 2 rfl rfl)
theorem dX3_mixed_51 : decode cX3_mixed 51 = .ok (.isub, 1) := dk_100 (dk_at dksX3_mixed_2 3 rfl rfl)
theorem dX3_mixed_52 : decode cX3_mixed 52 = .ok (.iload_n 2, 1) := dk_28 (dk_at dksX3_mixed_2 4 rfl rfl)
theorem dX3_mixed_53 : decode cX3_mixed 53 = .ok (.isub, 1) := dk_100 (dk_at dksX3_mixed_2 5 rfl rfl)
theorem dX3_mixed_54 : decode cX3_mixed 54 = .ok (.istore 8, 2) := dk_54 8 (dk_at dksX3_mixed_2 6 rfl rfl)
theorem dX3_mixed_56 : decode cX3_mixed 56 = .ok (.lload 4, 2) := dk_22 4 (dk_at dksX3_mixed_2 8 rfl rfl)
theorem dX3_mixed_58 : decode cX3_mixed 58 = .ok (.iload 6, 2) := dk_21 6 (dk_at dksX3_mixed_2 10 rfl rfl)
theorem dX3_mixed_60 : decode cX3_mixed 60 = .ok (.i2l, 1) := dk_133 (dk_at dksX3_mixed_2 12 rfl rfl)
theorem dX3_mixed_61 : decode cX3_mixed 61 = .ok (.lmul, 1) := dk_105 (dk_at dksX3_mixed_2 13 rfl rfl)
theorem dX3_mixed_62 : decode cX3_mixed 62 = .ok (.iload 8, 2) := dk_21 8 (dk_at dksX3_mixed_2 14 rfl rfl)
theorem dX3_mixed_64 : decode cX3_mixed 64 = .ok (.i2l, 1) := dk_133 (dk_at dksX3_mixed_2 16 rfl rfl)
theorem dX3_mixed_65 : decode cX3_mixed 65 = .ok (.ldiv, 1) := dk_109 (dk_at dksX3_mixed_2 17 rfl rfl)
theorem dX3_mixed_66 : decode cX3_mixed 66 = .ok (.lstore 4, 2) := dk_55 4 (dk_at dksX3_mixed_2 18 rfl rfl)
theorem dX3_mixed_68 : decode cX3_mixed 68 = .ok (.lload 4, 2) := dk_22 4 (dk_at dksX3_mixed_2 20 rfl rfl)
theorem dX3_mixed_70 : decode cX3_mixed 70 = .ok (.ldc2_w 278, 3) := dk_20 1 22 (dk_at dksX3_mixed_3 0 rfl rfl)
theorem dX3_mixed_73 : decode cX3_mixed 73 = .ok (.lcmp, 1) := dk_148 (dk_at dksX3_mixed_3 3 rfl rfl)
theorem dX3_mixed_74 : decode cX3_mixed 74 = .ok (.ifCond .le 9, 3) := dk_158 0 9 (dk_at dksX3_mixed_3 4 rfl rfl)
theorem dX3_mixed_77 : decode cX3_mixed 77 = .ok (.ldc2_w 278, 3) := dk_20 1 22 (dk_at dksX3_mixed_3 7 rfl rfl)
theorem dX3_mixed_80 : decode cX3_mixed 80 = .ok (.goto 5, 3) := dk_167 0 5 (dk_at dksX3_mixed_3 10 rfl rfl)
theorem dX3_mixed_83 : decode cX3_mixed 83 = .ok (.lload 4, 2) := dk_22 4 (dk_at dksX3_mixed_3 13 rfl rfl)
theorem dX3_mixed_85 : decode cX3_mixed 85 = .ok (.lstore 4, 2) := dk_55 4 (dk_at dksX3_mixed_3 15 rfl rfl)
theorem dX3_mixed_87 : decode cX3_mixed 87 = .ok (.lload 4, 2) := dk_22 4 (dk_at dksX3_mixed_3 17 rfl rfl)
theorem dX3_mixed_89 : decode cX3_mixed 89 = .ok (.ldc2_w 278, 3) := dk_20 1 22 (dk_at dksX3_mixed_3 19 rfl rfl)
theorem dX3_mixed_92 : decode cX3_mixed 92 = .ok (.lcmp, 1) := dk_148 (dk_at dksX3_mixed_3 22 rfl rfl)
theorem dX3_mixed_93 : decode cX3_mixed 93 = .ok (.ifCond .ne 6, 3) := dk_154 0 6 (dk_at dksX3_mixed_4 0 rfl rfl)
theorem dX3_mixed_96 : decode cX3_mixed 96 = .ok (.lload 4, 2) := dk_22 4 (dk_at dksX3_mixed_4 3 rfl rfl)
theorem dX3_mixed_98 : decode cX3_mixed 98 = .ok (.lreturn, 1) := dk_173 (dk_at dksX3_mixed_4 5 rfl rfl)
theorem dX3_mixed_99 : decode cX3_mixed 99 = .ok (.iinc 7 1, 3) := dk_132 7 1 (dk_at dksX3_mixed_4 6 rfl rfl)
theorem dX3_mixed_102 : decode cX3_mixed 102 = .ok (.goto (-93), 3) := dk_167 255 163 (dk_at dksX3_mixed_4 9 rfl rfl)
theorem dX3_mixed_105 : decode cX3_mixed 105 = .ok (.lload 4, 2) := dk_22 4 (dk_at dksX3_mixed_4 12 rfl rfl)
theorem dX3_mixed_107 : decode cX3_mixed 107 = .ok (.lreturn, 1) := dk_173 (dk_at dksX3_mixed_4 14 rfl rfl)
abbrev cX3_overOrders : ByteArray := prog_13_method_91_code
def yX3_overOrders : MethodName := ⟨RX3, "overOrders", "(III)I"⟩
def dkwX3_overOrders_4 : List UInt8 := [160, 0, 7, 4, 167, 0, 4, 3, 96, 54, 5, 132, 6, 1, 167, 255, 207, 21, 5, 172]
abbrev dktX3_overOrders_4 : List UInt8 := dkwX3_overOrders_4 ++ []
def dkwX3_overOrders_3 : List UInt8 := [42, 42, 182, 0, 167, 181, 0, 157, 42, 27, 182, 0, 171, 21, 5, 42, 180, 0, 81, 28, 46, 29]
abbrev dktX3_overOrders_3 : List UInt8 := dkwX3_overOrders_3 ++ dktX3_overOrders_4
def dkwX3_overOrders_2 : List UInt8 := [154, 0, 5, 3, 172, 3, 54, 5, 3, 54, 6, 21, 6, 21, 4, 162, 0, 48, 42, 21, 6, 182, 1, 41]
abbrev dktX3_overOrders_2 : List UInt8 := dkwX3_overOrders_2 ++ dktX3_overOrders_3
def dkwX3_overOrders_1 : List UInt8 := [167, 0, 4, 3, 29, 184, 1, 2, 21, 4, 16, 120, 163, 0, 7, 4, 167, 0, 4, 3, 182, 0, 181]
abbrev dktX3_overOrders_1 : List UInt8 := dkwX3_overOrders_1 ++ dktX3_overOrders_2
def dkwX3_overOrders_0 : List UInt8 := [42, 182, 1, 38, 54, 4, 42, 42, 27, 182, 0, 249, 153, 0, 15, 42, 28, 182, 0, 240, 153, 0, 7, 4]
abbrev dktX3_overOrders_0 : List UInt8 := dkwX3_overOrders_0 ++ dktX3_overOrders_1
theorem dksX3_overOrders_0 : cX3_overOrders.data.toList.drop 0 = dktX3_overOrders_0 := by decide +kernel
theorem dksX3_overOrders_1 : cX3_overOrders.data.toList.drop 24 = dktX3_overOrders_1 := dk_seg dksX3_overOrders_0 24 rfl rfl
theorem dksX3_overOrders_2 : cX3_overOrders.data.toList.drop 47 = dktX3_overOrders_2 := dk_seg dksX3_overOrders_1 23 rfl rfl
theorem dksX3_overOrders_3 : cX3_overOrders.data.toList.drop 71 = dktX3_overOrders_3 := dk_seg dksX3_overOrders_2 24 rfl rfl
theorem dksX3_overOrders_4 : cX3_overOrders.data.toList.drop 93 = dktX3_overOrders_4 := dk_seg dksX3_overOrders_3 22 rfl rfl
theorem dX3_overOrders_0 : decode cX3_overOrders 0 = .ok (.aload_n 0, 1) := dk_42 (dk_at dksX3_overOrders_0 0 rfl rfl)
theorem dX3_overOrders_1 : decode cX3_overOrders 1 = .ok (.invokevirtual 294, 3) := dk_182 1 38 (dk_at dksX3_overOrders_0 1 rfl rfl)
theorem dX3_overOrders_4 : decode cX3_overOrders 4 = .ok (.istore 4, 2) := dk_54 4 (dk_at dksX3_overOrders_0 4 rfl rfl)
theorem dX3_overOrders_6 : decode cX3_overOrders 6 = .ok (.aload_n 0, 1) := dk_42 (dk_at dksX3_overOrders_0 6 rfl rfl)
theorem dX3_overOrders_7 : decode cX3_overOrders 7 = .ok (.aload_n 0, 1) := dk_42 (dk_at dksX3_overOrders_0 7 rfl rfl)
theorem dX3_overOrders_8 : decode cX3_overOrders 8 = .ok (.iload_n 1, 1) := dk_27 (dk_at dksX3_overOrders_0 8 rfl rfl)
theorem dX3_overOrders_9 : decode cX3_overOrders 9 = .ok (.invokevirtual 249, 3) := dk_182 0 249 (dk_at dksX3_overOrders_0 9 rfl rfl)
theorem dX3_overOrders_12 : decode cX3_overOrders 12 = .ok (.ifCond .eq 15, 3) := dk_153 0 15 (dk_at dksX3_overOrders_0 12 rfl rfl)
theorem dX3_overOrders_15 : decode cX3_overOrders 15 = .ok (.aload_n 0, 1) := dk_42 (dk_at dksX3_overOrders_0 15 rfl rfl)
theorem dX3_overOrders_16 : decode cX3_overOrders 16 = .ok (.iload_n 2, 1) := dk_28 (dk_at dksX3_overOrders_0 16 rfl rfl)
theorem dX3_overOrders_17 : decode cX3_overOrders 17 = .ok (.invokevirtual 240, 3) := dk_182 0 240 (dk_at dksX3_overOrders_0 17 rfl rfl)
theorem dX3_overOrders_20 : decode cX3_overOrders 20 = .ok (.ifCond .eq 7, 3) := dk_153 0 7 (dk_at dksX3_overOrders_0 20 rfl rfl)
theorem dX3_overOrders_23 : decode cX3_overOrders 23 = .ok (.iconst 1, 1) := dk_4 (dk_at dksX3_overOrders_0 23 rfl rfl)
theorem dX3_overOrders_24 : decode cX3_overOrders 24 = .ok (.goto 4, 3) := dk_167 0 4 (dk_at dksX3_overOrders_1 0 rfl rfl)
theorem dX3_overOrders_27 : decode cX3_overOrders 27 = .ok (.iconst 0, 1) := dk_3 (dk_at dksX3_overOrders_1 3 rfl rfl)
theorem dX3_overOrders_28 : decode cX3_overOrders 28 = .ok (.iload_n 3, 1) := dk_29 (dk_at dksX3_overOrders_1 4 rfl rfl)
theorem dX3_overOrders_29 : decode cX3_overOrders 29 = .ok (.invokestatic 258, 3) := dk_184 1 2 (dk_at dksX3_overOrders_1 5 rfl rfl)
theorem dX3_overOrders_32 : decode cX3_overOrders 32 = .ok (.iload 4, 2) := dk_21 4 (dk_at dksX3_overOrders_1 8 rfl rfl)
theorem dX3_overOrders_34 : decode cX3_overOrders 34 = .ok (.bipush 120, 2) := dk_16 120 (dk_at dksX3_overOrders_1 10 rfl rfl)
theorem dX3_overOrders_36 : decode cX3_overOrders 36 = .ok (.if_icmp .gt 7, 3) := dk_163 0 7 (dk_at dksX3_overOrders_1 12 rfl rfl)
theorem dX3_overOrders_39 : decode cX3_overOrders 39 = .ok (.iconst 1, 1) := dk_4 (dk_at dksX3_overOrders_1 15 rfl rfl)
theorem dX3_overOrders_40 : decode cX3_overOrders 40 = .ok (.goto 4, 3) := dk_167 0 4 (dk_at dksX3_overOrders_1 16 rfl rfl)
theorem dX3_overOrders_43 : decode cX3_overOrders 43 = .ok (.iconst 0, 1) := dk_3 (dk_at dksX3_overOrders_1 19 rfl rfl)
theorem dX3_overOrders_44 : decode cX3_overOrders 44 = .ok (.invokevirtual 181, 3) := dk_182 0 181 (dk_at dksX3_overOrders_1 20 rfl rfl)
theorem dX3_overOrders_47 : decode cX3_overOrders 47 = .ok (.ifCond .ne 5, 3) := dk_154 0 5 (dk_at dksX3_overOrders_2 0 rfl rfl)
theorem dX3_overOrders_50 : decode cX3_overOrders 50 = .ok (.iconst 0, 1) := dk_3 (dk_at dksX3_overOrders_2 3 rfl rfl)
theorem dX3_overOrders_51 : decode cX3_overOrders 51 = .ok (.ireturn, 1) := dk_172 (dk_at dksX3_overOrders_2 4 rfl rfl)
theorem dX3_overOrders_52 : decode cX3_overOrders 52 = .ok (.iconst 0, 1) := dk_3 (dk_at dksX3_overOrders_2 5 rfl rfl)
theorem dX3_overOrders_53 : decode cX3_overOrders 53 = .ok (.istore 5, 2) := dk_54 5 (dk_at dksX3_overOrders_2 6 rfl rfl)
theorem dX3_overOrders_55 : decode cX3_overOrders 55 = .ok (.iconst 0, 1) := dk_3 (dk_at dksX3_overOrders_2 8 rfl rfl)
theorem dX3_overOrders_56 : decode cX3_overOrders 56 = .ok (.istore 6, 2) := dk_54 6 (dk_at dksX3_overOrders_2 9 rfl rfl)
theorem dX3_overOrders_58 : decode cX3_overOrders 58 = .ok (.iload 6, 2) := dk_21 6 (dk_at dksX3_overOrders_2 11 rfl rfl)
theorem dX3_overOrders_60 : decode cX3_overOrders 60 = .ok (.iload 4, 2) := dk_21 4 (dk_at dksX3_overOrders_2 13 rfl rfl)
theorem dX3_overOrders_62 : decode cX3_overOrders 62 = .ok (.if_icmp .ge 48, 3) := dk_162 0 48 (dk_at dksX3_overOrders_2 15 rfl rfl)
theorem dX3_overOrders_65 : decode cX3_overOrders 65 = .ok (.aload_n 0, 1) := dk_42 (dk_at dksX3_overOrders_2 18 rfl rfl)
theorem dX3_overOrders_66 : decode cX3_overOrders 66 = .ok (.iload 6, 2) := dk_21 6 (dk_at dksX3_overOrders_2 19 rfl rfl)
theorem dX3_overOrders_68 : decode cX3_overOrders 68 = .ok (.invokevirtual 297, 3) := dk_182 1 41 (dk_at dksX3_overOrders_2 21 rfl rfl)
theorem dX3_overOrders_71 : decode cX3_overOrders 71 = .ok (.aload_n 0, 1) := dk_42 (dk_at dksX3_overOrders_3 0 rfl rfl)
theorem dX3_overOrders_72 : decode cX3_overOrders 72 = .ok (.aload_n 0, 1) := dk_42 (dk_at dksX3_overOrders_3 1 rfl rfl)
theorem dX3_overOrders_73 : decode cX3_overOrders 73 = .ok (.invokevirtual 167, 3) := dk_182 0 167 (dk_at dksX3_overOrders_3 2 rfl rfl)
theorem dX3_overOrders_76 : decode cX3_overOrders 76 = .ok (.putfield 157, 3) := dk_181 0 157 (dk_at dksX3_overOrders_3 5 rfl rfl)
theorem dX3_overOrders_79 : decode cX3_overOrders 79 = .ok (.aload_n 0, 1) := dk_42 (dk_at dksX3_overOrders_3 8 rfl rfl)
theorem dX3_overOrders_80 : decode cX3_overOrders 80 = .ok (.iload_n 1, 1) := dk_27 (dk_at dksX3_overOrders_3 9 rfl rfl)
theorem dX3_overOrders_81 : decode cX3_overOrders 81 = .ok (.invokevirtual 171, 3) := dk_182 0 171 (dk_at dksX3_overOrders_3 10 rfl rfl)
theorem dX3_overOrders_84 : decode cX3_overOrders 84 = .ok (.iload 5, 2) := dk_21 5 (dk_at dksX3_overOrders_3 13 rfl rfl)
theorem dX3_overOrders_86 : decode cX3_overOrders 86 = .ok (.aload_n 0, 1) := dk_42 (dk_at dksX3_overOrders_3 15 rfl rfl)
theorem dX3_overOrders_87 : decode cX3_overOrders 87 = .ok (.getfield 81, 3) := dk_180 0 81 (dk_at dksX3_overOrders_3 16 rfl rfl)
theorem dX3_overOrders_90 : decode cX3_overOrders 90 = .ok (.iload_n 2, 1) := dk_28 (dk_at dksX3_overOrders_3 19 rfl rfl)
theorem dX3_overOrders_91 : decode cX3_overOrders 91 = .ok (.iaload, 1) := dk_46 (dk_at dksX3_overOrders_3 20 rfl rfl)
theorem dX3_overOrders_92 : decode cX3_overOrders 92 = .ok (.iload_n 3, 1) := dk_29 (dk_at dksX3_overOrders_3 21 rfl rfl)
theorem dX3_overOrders_93 : decode cX3_overOrders 93 = .ok (.if_icmp .ne 7, 3) := dk_160 0 7 (dk_at dksX3_overOrders_4 0 rfl rfl)
theorem dX3_overOrders_96 : decode cX3_overOrders 96 = .ok (.iconst 1, 1) := dk_4 (dk_at dksX3_overOrders_4 3 rfl rfl)
theorem dX3_overOrders_97 : decode cX3_overOrders 97 = .ok (.goto 4, 3) := dk_167 0 4 (dk_at dksX3_overOrders_4 4 rfl rfl)
theorem dX3_overOrders_100 : decode cX3_overOrders 100 = .ok (.iconst 0, 1) := dk_3 (dk_at dksX3_overOrders_4 7 rfl rfl)
theorem dX3_overOrders_101 : decode cX3_overOrders 101 = .ok (.iadd, 1) := dk_96 (dk_at dksX3_overOrders_4 8 rfl rfl)
theorem dX3_overOrders_102 : decode cX3_overOrders 102 = .ok (.istore 5, 2) := dk_54 5 (dk_at dksX3_overOrders_4 9 rfl rfl)
theorem dX3_overOrders_104 : decode cX3_overOrders 104 = .ok (.iinc 6 1, 3) := dk_132 6 1 (dk_at dksX3_overOrders_4 11 rfl rfl)
theorem dX3_overOrders_107 : decode cX3_overOrders 107 = .ok (.goto (-49), 3) := dk_167 255 207 (dk_at dksX3_overOrders_4 14 rfl rfl)
theorem dX3_overOrders_110 : decode cX3_overOrders 110 = .ok (.iload 5, 2) := dk_21 5 (dk_at dksX3_overOrders_4 17 rfl rfl)
theorem dX3_overOrders_112 : decode cX3_overOrders 112 = .ok (.ireturn, 1) := dk_172 (dk_at dksX3_overOrders_4 19 rfl rfl)
abbrev cX3_laysOrder : ByteArray := prog_13_method_90_code
def yX3_laysOrder : MethodName := ⟨RX3, "laysOrder", "(I)V"⟩
def dkwX3_laysOrder_15 : List UInt8 := [132, 15, 1, 167, 255, 22, 21, 4, 62, 167, 254, 166, 177]
abbrev dktX3_laysOrder_15 : List UInt8 := dkwX3_laysOrder_15 ++ []
def dkwX3_laysOrder_14 : List UInt8 := [54, 10, 42, 180, 0, 75, 21, 15, 42, 180, 0, 36, 21, 14, 46, 79, 132, 14, 1, 132, 8, 255]
abbrev dktX3_laysOrder_14 : List UInt8 := dkwX3_laysOrder_14 ++ dktX3_laysOrder_15
def dkwX3_laysOrder_13 : List UInt8 := [21, 13, 46, 79, 132, 13, 1, 132, 7, 255, 167, 0, 36, 21, 10, 21, 16, 21, 17, 96, 21, 18, 96, 100]
abbrev dktX3_laysOrder_13 : List UInt8 := dkwX3_laysOrder_13 ++ dktX3_laysOrder_14
def dkwX3_laysOrder_12 : List UInt8 := [162, 0, 36, 21, 10, 21, 16, 21, 17, 96, 100, 54, 10, 42, 180, 0, 75, 21, 15, 42, 180, 0, 36]
abbrev dktX3_laysOrder_12 : List UInt8 := dkwX3_laysOrder_12 ++ dktX3_laysOrder_13
def dkwX3_laysOrder_11 : List UInt8 := [21, 12, 46, 79, 132, 12, 1, 132, 6, 255, 167, 0, 82, 21, 10, 21, 16, 21, 17, 96, 21, 18, 96]
abbrev dktX3_laysOrder_11 : List UInt8 := dkwX3_laysOrder_11 ++ dktX3_laysOrder_12
def dkwX3_laysOrder_10 : List UInt8 := [21, 17, 96, 162, 0, 33, 21, 10, 21, 16, 100, 54, 10, 42, 180, 0, 75, 21, 15, 42, 180, 0, 36]
abbrev dktX3_laysOrder_10 : List UInt8 := dkwX3_laysOrder_10 ++ dktX3_laysOrder_11
def dkwX3_laysOrder_9 : List UInt8 := [21, 15, 42, 180, 0, 36, 21, 11, 46, 79, 132, 11, 1, 132, 5, 255, 167, 0, 122, 21, 10, 21, 16]
abbrev dktX3_laysOrder_9 : List UInt8 := dkwX3_laysOrder_9 ++ dktX3_laysOrder_10
def dkwX3_laysOrder_8 : List UInt8 := [21, 7, 4, 100, 21, 8, 184, 1, 30, 136, 54, 18, 21, 10, 21, 16, 162, 0, 26, 42, 180, 0, 75]
abbrev dktX3_laysOrder_8 : List UInt8 := dkwX3_laysOrder_8 ++ dktX3_laysOrder_9
def dkwX3_laysOrder_7 : List UInt8 := [100, 21, 7, 21, 8, 184, 1, 30, 136, 54, 17, 21, 7, 154, 0, 7, 3, 167, 0, 17, 21, 5, 21, 6]
abbrev dktX3_laysOrder_7 : List UInt8 := dkwX3_laysOrder_7 ++ dktX3_laysOrder_8
def dkwX3_laysOrder_6 : List UInt8 := [21, 7, 21, 8, 184, 1, 30, 136, 54, 16, 21, 6, 154, 0, 7, 3, 167, 0, 17, 21, 5, 21, 6, 4]
abbrev dktX3_laysOrder_6 : List UInt8 := dkwX3_laysOrder_6 ++ dktX3_laysOrder_7
def dkwX3_laysOrder_5 : List UInt8 := [54, 15, 21, 15, 21, 4, 162, 0, 233, 21, 5, 154, 0, 7, 3, 167, 0, 17, 21, 5, 4, 100, 21, 6]
abbrev dktX3_laysOrder_5 : List UInt8 := dkwX3_laysOrder_5 ++ dktX3_laysOrder_6
def dkwX3_laysOrder_4 : List UInt8 := [54, 11, 29, 21, 5, 96, 54, 12, 21, 12, 21, 6, 96, 54, 13, 21, 13, 21, 7, 96, 54, 14, 29]
abbrev dktX3_laysOrder_4 : List UInt8 := dkwX3_laysOrder_4 ++ dktX3_laysOrder_5
def dkwX3_laysOrder_3 : List UInt8 := [21, 6, 21, 7, 21, 8, 184, 1, 30, 136, 54, 9, 28, 21, 9, 112, 54, 10, 28, 21, 9, 108, 61, 29]
abbrev dktX3_laysOrder_3 : List UInt8 := dkwX3_laysOrder_3 ++ dktX3_laysOrder_4
def dkwX3_laysOrder_2 : List UInt8 := [54, 6, 42, 29, 21, 4, 5, 182, 1, 27, 54, 7, 42, 29, 21, 4, 6, 182, 1, 27, 54, 8, 21, 5]
abbrev dktX3_laysOrder_2 : List UInt8 := dkwX3_laysOrder_2 ++ dktX3_laysOrder_3
def dkwX3_laysOrder_1 : List UInt8 := [182, 1, 24, 54, 4, 42, 29, 21, 4, 3, 182, 1, 27, 54, 5, 42, 29, 21, 4, 4, 182, 1, 27]
abbrev dktX3_laysOrder_1 : List UInt8 := dkwX3_laysOrder_1 ++ dktX3_laysOrder_2
def dkwX3_laysOrder_0 : List UInt8 := [42, 42, 180, 0, 91, 181, 0, 154, 27, 61, 3, 62, 29, 42, 180, 0, 91, 162, 1, 88, 42, 29]
abbrev dktX3_laysOrder_0 : List UInt8 := dkwX3_laysOrder_0 ++ dktX3_laysOrder_1
theorem dksX3_laysOrder_0 : cX3_laysOrder.data.toList.drop 0 = dktX3_laysOrder_0 := by decide +kernel
theorem dksX3_laysOrder_1 : cX3_laysOrder.data.toList.drop 22 = dktX3_laysOrder_1 := dk_seg dksX3_laysOrder_0 22 rfl rfl
theorem dksX3_laysOrder_2 : cX3_laysOrder.data.toList.drop 45 = dktX3_laysOrder_2 := dk_seg dksX3_laysOrder_1 23 rfl rfl
theorem dksX3_laysOrder_3 : cX3_laysOrder.data.toList.drop 69 = dktX3_laysOrder_3 := dk_seg dksX3_laysOrder_2 24 rfl rfl
theorem dksX3_laysOrder_4 : cX3_laysOrder.data.toList.drop 93 = dktX3_laysOrder_4 := dk_seg dksX3_laysOrder_3 24 rfl rfl
theorem dksX3_laysOrder_5 : cX3_laysOrder.data.toList.drop 116 = dktX3_laysOrder_5 := dk_seg dksX3_laysOrder_4 23 rfl rfl
theorem dksX3_laysOrder_6 : cX3_laysOrder.data.toList.drop 140 = dktX3_laysOrder_6 := dk_seg dksX3_laysOrder_5 24 rfl rfl
theorem dksX3_laysOrder_7 : cX3_laysOrder.data.toList.drop 164 = dktX3_laysOrder_7 := dk_seg dksX3_laysOrder_6 24 rfl rfl
theorem dksX3_laysOrder_8 : cX3_laysOrder.data.toList.drop 188 = dktX3_laysOrder_8 := dk_seg dksX3_laysOrder_7 24 rfl rfl
theorem dksX3_laysOrder_9 : cX3_laysOrder.data.toList.drop 211 = dktX3_laysOrder_9 := dk_seg dksX3_laysOrder_8 23 rfl rfl
theorem dksX3_laysOrder_10 : cX3_laysOrder.data.toList.drop 234 = dktX3_laysOrder_10 := dk_seg dksX3_laysOrder_9 23 rfl rfl
theorem dksX3_laysOrder_11 : cX3_laysOrder.data.toList.drop 257 = dktX3_laysOrder_11 := dk_seg dksX3_laysOrder_10 23 rfl rfl
theorem dksX3_laysOrder_12 : cX3_laysOrder.data.toList.drop 280 = dktX3_laysOrder_12 := dk_seg dksX3_laysOrder_11 23 rfl rfl
theorem dksX3_laysOrder_13 : cX3_laysOrder.data.toList.drop 303 = dktX3_laysOrder_13 := dk_seg dksX3_laysOrder_12 23 rfl rfl
theorem dksX3_laysOrder_14 : cX3_laysOrder.data.toList.drop 327 = dktX3_laysOrder_14 := dk_seg dksX3_laysOrder_13 24 rfl rfl
theorem dksX3_laysOrder_15 : cX3_laysOrder.data.toList.drop 349 = dktX3_laysOrder_15 := dk_seg dksX3_laysOrder_14 22 rfl rfl
theorem dX3_laysOrder_0 : decode cX3_laysOrder 0 = .ok (.aload_n 0, 1) := dk_42 (dk_at dksX3_laysOrder_0 0 rfl rfl)
theorem dX3_laysOrder_1 : decode cX3_laysOrder 1 = .ok (.aload_n 0, 1) := dk_42 (dk_at dksX3_laysOrder_0 1 rfl rfl)
theorem dX3_laysOrder_2 : decode cX3_laysOrder 2 = .ok (.getfield 91, 3) := dk_180 0 91 (dk_at dksX3_laysOrder_0 2 rfl rfl)
theorem dX3_laysOrder_5 : decode cX3_laysOrder 5 = .ok (.putfield 154, 3) := dk_181 0 154 (dk_at dksX3_laysOrder_0 5 rfl rfl)
theorem dX3_laysOrder_8 : decode cX3_laysOrder 8 = .ok (.iload_n 1, 1) := dk_27 (dk_at dksX3_laysOrder_0 8 rfl rfl)
theorem dX3_laysOrder_9 : decode cX3_laysOrder 9 = .ok (.istore_n 2, 1) := dk_61 (dk_at dksX3_laysOrder_0 9 rfl rfl)
theorem dX3_laysOrder_10 : decode cX3_laysOrder 10 = .ok (.iconst 0, 1) := dk_3 (dk_at dksX3_laysOrder_0 10 rfl rfl)
theorem dX3_laysOrder_11 : decode cX3_laysOrder 11 = .ok (.istore_n 3, 1) := dk_62 (dk_at dksX3_laysOrder_0 11 rfl rfl)
theorem dX3_laysOrder_12 : decode cX3_laysOrder 12 = .ok (.iload_n 3, 1) := dk_29 (dk_at dksX3_laysOrder_0 12 rfl rfl)
theorem dX3_laysOrder_13 : decode cX3_laysOrder 13 = .ok (.aload_n 0, 1) := dk_42 (dk_at dksX3_laysOrder_0 13 rfl rfl)
theorem dX3_laysOrder_14 : decode cX3_laysOrder 14 = .ok (.getfield 91, 3) := dk_180 0 91 (dk_at dksX3_laysOrder_0 14 rfl rfl)
theorem dX3_laysOrder_17 : decode cX3_laysOrder 17 = .ok (.if_icmp .ge 344, 3) := dk_162 1 88 (dk_at dksX3_laysOrder_0 17 rfl rfl)
theorem dX3_laysOrder_20 : decode cX3_laysOrder 20 = .ok (.aload_n 0, 1) := dk_42 (dk_at dksX3_laysOrder_0 20 rfl rfl)
theorem dX3_laysOrder_21 : decode cX3_laysOrder 21 = .ok (.iload_n 3, 1) := dk_29 (dk_at dksX3_laysOrder_0 21 rfl rfl)
theorem dX3_laysOrder_22 : decode cX3_laysOrder 22 = .ok (.invokevirtual 280, 3) := dk_182 1 24 (dk_at dksX3_laysOrder_1 0 rfl rfl)
theorem dX3_laysOrder_25 : decode cX3_laysOrder 25 = .ok (.istore 4, 2) := dk_54 4 (dk_at dksX3_laysOrder_1 3 rfl rfl)
theorem dX3_laysOrder_27 : decode cX3_laysOrder 27 = .ok (.aload_n 0, 1) := dk_42 (dk_at dksX3_laysOrder_1 5 rfl rfl)
theorem dX3_laysOrder_28 : decode cX3_laysOrder 28 = .ok (.iload_n 3, 1) := dk_29 (dk_at dksX3_laysOrder_1 6 rfl rfl)
theorem dX3_laysOrder_29 : decode cX3_laysOrder 29 = .ok (.iload 4, 2) := dk_21 4 (dk_at dksX3_laysOrder_1 7 rfl rfl)
theorem dX3_laysOrder_31 : decode cX3_laysOrder 31 = .ok (.iconst 0, 1) := dk_3 (dk_at dksX3_laysOrder_1 9 rfl rfl)
theorem dX3_laysOrder_32 : decode cX3_laysOrder 32 = .ok (.invokevirtual 283, 3) := dk_182 1 27 (dk_at dksX3_laysOrder_1 10 rfl rfl)
theorem dX3_laysOrder_35 : decode cX3_laysOrder 35 = .ok (.istore 5, 2) := dk_54 5 (dk_at dksX3_laysOrder_1 13 rfl rfl)
theorem dX3_laysOrder_37 : decode cX3_laysOrder 37 = .ok (.aload_n 0, 1) := dk_42 (dk_at dksX3_laysOrder_1 15 rfl rfl)
theorem dX3_laysOrder_38 : decode cX3_laysOrder 38 = .ok (.iload_n 3, 1) := dk_29 (dk_at dksX3_laysOrder_1 16 rfl rfl)
theorem dX3_laysOrder_39 : decode cX3_laysOrder 39 = .ok (.iload 4, 2) := dk_21 4 (dk_at dksX3_laysOrder_1 17 rfl rfl)
theorem dX3_laysOrder_41 : decode cX3_laysOrder 41 = .ok (.iconst 1, 1) := dk_4 (dk_at dksX3_laysOrder_1 19 rfl rfl)
theorem dX3_laysOrder_42 : decode cX3_laysOrder 42 = .ok (.invokevirtual 283, 3) := dk_182 1 27 (dk_at dksX3_laysOrder_1 20 rfl rfl)
theorem dX3_laysOrder_45 : decode cX3_laysOrder 45 = .ok (.istore 6, 2) := dk_54 6 (dk_at dksX3_laysOrder_2 0 rfl rfl)
theorem dX3_laysOrder_47 : decode cX3_laysOrder 47 = .ok (.aload_n 0, 1) := dk_42 (dk_at dksX3_laysOrder_2 2 rfl rfl)
theorem dX3_laysOrder_48 : decode cX3_laysOrder 48 = .ok (.iload_n 3, 1) := dk_29 (dk_at dksX3_laysOrder_2 3 rfl rfl)
theorem dX3_laysOrder_49 : decode cX3_laysOrder 49 = .ok (.iload 4, 2) := dk_21 4 (dk_at dksX3_laysOrder_2 4 rfl rfl)
theorem dX3_laysOrder_51 : decode cX3_laysOrder 51 = .ok (.iconst 2, 1) := dk_5 (dk_at dksX3_laysOrder_2 6 rfl rfl)
theorem dX3_laysOrder_52 : decode cX3_laysOrder 52 = .ok (.invokevirtual 283, 3) := dk_182 1 27 (dk_at dksX3_laysOrder_2 7 rfl rfl)
theorem dX3_laysOrder_55 : decode cX3_laysOrder 55 = .ok (.istore 7, 2) := dk_54 7 (dk_at dksX3_laysOrder_2 10 rfl rfl)
theorem dX3_laysOrder_57 : decode cX3_laysOrder 57 = .ok (.aload_n 0, 1) := dk_42 (dk_at dksX3_laysOrder_2 12 rfl rfl)
theorem dX3_laysOrder_58 : decode cX3_laysOrder 58 = .ok (.iload_n 3, 1) := dk_29 (dk_at dksX3_laysOrder_2 13 rfl rfl)
theorem dX3_laysOrder_59 : decode cX3_laysOrder 59 = .ok (.iload 4, 2) := dk_21 4 (dk_at dksX3_laysOrder_2 14 rfl rfl)
theorem dX3_laysOrder_61 : decode cX3_laysOrder 61 = .ok (.iconst 3, 1) := dk_6 (dk_at dksX3_laysOrder_2 16 rfl rfl)
theorem dX3_laysOrder_62 : decode cX3_laysOrder 62 = .ok (.invokevirtual 283, 3) := dk_182 1 27 (dk_at dksX3_laysOrder_2 17 rfl rfl)
theorem dX3_laysOrder_65 : decode cX3_laysOrder 65 = .ok (.istore 8, 2) := dk_54 8 (dk_at dksX3_laysOrder_2 20 rfl rfl)
theorem dX3_laysOrder_67 : decode cX3_laysOrder 67 = .ok (.iload 5, 2) := dk_21 5 (dk_at dksX3_laysOrder_2 22 rfl rfl)
theorem dX3_laysOrder_69 : decode cX3_laysOrder 69 = .ok (.iload 6, 2) := dk_21 6 (dk_at dksX3_laysOrder_3 0 rfl rfl)
theorem dX3_laysOrder_71 : decode cX3_laysOrder 71 = .ok (.iload 7, 2) := dk_21 7 (dk_at dksX3_laysOrder_3 2 rfl rfl)
theorem dX3_laysOrder_73 : decode cX3_laysOrder 73 = .ok (.iload 8, 2) := dk_21 8 (dk_at dksX3_laysOrder_3 4 rfl rfl)
theorem dX3_laysOrder_75 : decode cX3_laysOrder 75 = .ok (.invokestatic 286, 3) := dk_184 1 30 (dk_at dksX3_laysOrder_3 6 rfl rfl)
theorem dX3_laysOrder_78 : decode cX3_laysOrder 78 = .ok (.l2i, 1) := dk_136 (dk_at dksX3_laysOrder_3 9 rfl rfl)
theorem dX3_laysOrder_79 : decode cX3_laysOrder 79 = .ok (.istore 9, 2) := dk_54 9 (dk_at dksX3_laysOrder_3 10 rfl rfl)
theorem dX3_laysOrder_81 : decode cX3_laysOrder 81 = .ok (.iload_n 2, 1) := dk_28 (dk_at dksX3_laysOrder_3 12 rfl rfl)
theorem dX3_laysOrder_82 : decode cX3_laysOrder 82 = .ok (.iload 9, 2) := dk_21 9 (dk_at dksX3_laysOrder_3 13 rfl rfl)
theorem dX3_laysOrder_84 : decode cX3_laysOrder 84 = .ok (.irem, 1) := dk_112 (dk_at dksX3_laysOrder_3 15 rfl rfl)
theorem dX3_laysOrder_85 : decode cX3_laysOrder 85 = .ok (.istore 10, 2) := dk_54 10 (dk_at dksX3_laysOrder_3 16 rfl rfl)
theorem dX3_laysOrder_87 : decode cX3_laysOrder 87 = .ok (.iload_n 2, 1) := dk_28 (dk_at dksX3_laysOrder_3 18 rfl rfl)
theorem dX3_laysOrder_88 : decode cX3_laysOrder 88 = .ok (.iload 9, 2) := dk_21 9 (dk_at dksX3_laysOrder_3 19 rfl rfl)
theorem dX3_laysOrder_90 : decode cX3_laysOrder 90 = .ok (.idiv, 1) := dk_108 (dk_at dksX3_laysOrder_3 21 rfl rfl)
theorem dX3_laysOrder_91 : decode cX3_laysOrder 91 = .ok (.istore_n 2, 1) := dk_61 (dk_at dksX3_laysOrder_3 22 rfl rfl)
theorem dX3_laysOrder_92 : decode cX3_laysOrder 92 = .ok (.iload_n 3, 1) := dk_29 (dk_at dksX3_laysOrder_3 23 rfl rfl)
theorem dX3_laysOrder_93 : decode cX3_laysOrder 93 = .ok (.istore 11, 2) := dk_54 11 (dk_at dksX3_laysOrder_4 0 rfl rfl)
theorem dX3_laysOrder_95 : decode cX3_laysOrder 95 = .ok (.iload_n 3, 1) := dk_29 (dk_at dksX3_laysOrder_4 2 rfl rfl)
theorem dX3_laysOrder_96 : decode cX3_laysOrder 96 = .ok (.iload 5, 2) := dk_21 5 (dk_at dksX3_laysOrder_4 3 rfl rfl)
theorem dX3_laysOrder_98 : decode cX3_laysOrder 98 = .ok (.iadd, 1) := dk_96 (dk_at dksX3_laysOrder_4 5 rfl rfl)
theorem dX3_laysOrder_99 : decode cX3_laysOrder 99 = .ok (.istore 12, 2) := dk_54 12 (dk_at dksX3_laysOrder_4 6 rfl rfl)
theorem dX3_laysOrder_101 : decode cX3_laysOrder 101 = .ok (.iload 12, 2) := dk_21 12 (dk_at dksX3_laysOrder_4 8 rfl rfl)
theorem dX3_laysOrder_103 : decode cX3_laysOrder 103 = .ok (.iload 6, 2) := dk_21 6 (dk_at dksX3_laysOrder_4 10 rfl rfl)
theorem dX3_laysOrder_105 : decode cX3_laysOrder 105 = .ok (.iadd, 1) := dk_96 (dk_at dksX3_laysOrder_4 12 rfl rfl)
theorem dX3_laysOrder_106 : decode cX3_laysOrder 106 = .ok (.istore 13, 2) := dk_54 13 (dk_at dksX3_laysOrder_4 13 rfl rfl)
theorem dX3_laysOrder_108 : decode cX3_laysOrder 108 = .ok (.iload 13, 2) := dk_21 13 (dk_at dksX3_laysOrder_4 15 rfl rfl)
theorem dX3_laysOrder_110 : decode cX3_laysOrder 110 = .ok (.iload 7, 2) := dk_21 7 (dk_at dksX3_laysOrder_4 17 rfl rfl)
theorem dX3_laysOrder_112 : decode cX3_laysOrder 112 = .ok (.iadd, 1) := dk_96 (dk_at dksX3_laysOrder_4 19 rfl rfl)
theorem dX3_laysOrder_113 : decode cX3_laysOrder 113 = .ok (.istore 14, 2) := dk_54 14 (dk_at dksX3_laysOrder_4 20 rfl rfl)
theorem dX3_laysOrder_115 : decode cX3_laysOrder 115 = .ok (.iload_n 3, 1) := dk_29 (dk_at dksX3_laysOrder_4 22 rfl rfl)
theorem dX3_laysOrder_116 : decode cX3_laysOrder 116 = .ok (.istore 15, 2) := dk_54 15 (dk_at dksX3_laysOrder_5 0 rfl rfl)
theorem dX3_laysOrder_118 : decode cX3_laysOrder 118 = .ok (.iload 15, 2) := dk_21 15 (dk_at dksX3_laysOrder_5 2 rfl rfl)
theorem dX3_laysOrder_120 : decode cX3_laysOrder 120 = .ok (.iload 4, 2) := dk_21 4 (dk_at dksX3_laysOrder_5 4 rfl rfl)
theorem dX3_laysOrder_122 : decode cX3_laysOrder 122 = .ok (.if_icmp .ge 233, 3) := dk_162 0 233 (dk_at dksX3_laysOrder_5 6 rfl rfl)
theorem dX3_laysOrder_125 : decode cX3_laysOrder 125 = .ok (.iload 5, 2) := dk_21 5 (dk_at dksX3_laysOrder_5 9 rfl rfl)
theorem dX3_laysOrder_127 : decode cX3_laysOrder 127 = .ok (.ifCond .ne 7, 3) := dk_154 0 7 (dk_at dksX3_laysOrder_5 11 rfl rfl)
theorem dX3_laysOrder_130 : decode cX3_laysOrder 130 = .ok (.iconst 0, 1) := dk_3 (dk_at dksX3_laysOrder_5 14 rfl rfl)
theorem dX3_laysOrder_131 : decode cX3_laysOrder 131 = .ok (.goto 17, 3) := dk_167 0 17 (dk_at dksX3_laysOrder_5 15 rfl rfl)
theorem dX3_laysOrder_134 : decode cX3_laysOrder 134 = .ok (.iload 5, 2) := dk_21 5 (dk_at dksX3_laysOrder_5 18 rfl rfl)
theorem dX3_laysOrder_136 : decode cX3_laysOrder 136 = .ok (.iconst 1, 1) := dk_4 (dk_at dksX3_laysOrder_5 20 rfl rfl)
theorem dX3_laysOrder_137 : decode cX3_laysOrder 137 = .ok (.isub, 1) := dk_100 (dk_at dksX3_laysOrder_5 21 rfl rfl)
theorem dX3_laysOrder_138 : decode cX3_laysOrder 138 = .ok (.iload 6, 2) := dk_21 6 (dk_at dksX3_laysOrder_5 22 rfl rfl)
theorem dX3_laysOrder_140 : decode cX3_laysOrder 140 = .ok (.iload 7, 2) := dk_21 7 (dk_at dksX3_laysOrder_6 0 rfl rfl)
theorem dX3_laysOrder_142 : decode cX3_laysOrder 142 = .ok (.iload 8, 2) := dk_21 8 (dk_at dksX3_laysOrder_6 2 rfl rfl)
theorem dX3_laysOrder_144 : decode cX3_laysOrder 144 = .ok (.invokestatic 286, 3) := dk_184 1 30 (dk_at dksX3_laysOrder_6 4 rfl rfl)
theorem dX3_laysOrder_147 : decode cX3_laysOrder 147 = .ok (.l2i, 1) := dk_136 (dk_at dksX3_laysOrder_6 7 rfl rfl)
theorem dX3_laysOrder_148 : decode cX3_laysOrder 148 = .ok (.istore 16, 2) := dk_54 16 (dk_at dksX3_laysOrder_6 8 rfl rfl)
theorem dX3_laysOrder_150 : decode cX3_laysOrder 150 = .ok (.iload 6, 2) := dk_21 6 (dk_at dksX3_laysOrder_6 10 rfl rfl)
theorem dX3_laysOrder_152 : decode cX3_laysOrder 152 = .ok (.ifCond .ne 7, 3) := dk_154 0 7 (dk_at dksX3_laysOrder_6 12 rfl rfl)
theorem dX3_laysOrder_155 : decode cX3_laysOrder 155 = .ok (.iconst 0, 1) := dk_3 (dk_at dksX3_laysOrder_6 15 rfl rfl)
theorem dX3_laysOrder_156 : decode cX3_laysOrder 156 = .ok (.goto 17, 3) := dk_167 0 17 (dk_at dksX3_laysOrder_6 16 rfl rfl)
theorem dX3_laysOrder_159 : decode cX3_laysOrder 159 = .ok (.iload 5, 2) := dk_21 5 (dk_at dksX3_laysOrder_6 19 rfl rfl)
theorem dX3_laysOrder_161 : decode cX3_laysOrder 161 = .ok (.iload 6, 2) := dk_21 6 (dk_at dksX3_laysOrder_6 21 rfl rfl)
theorem dX3_laysOrder_163 : decode cX3_laysOrder 163 = .ok (.iconst 1, 1) := dk_4 (dk_at dksX3_laysOrder_6 23 rfl rfl)
theorem dX3_laysOrder_164 : decode cX3_laysOrder 164 = .ok (.isub, 1) := dk_100 (dk_at dksX3_laysOrder_7 0 rfl rfl)
theorem dX3_laysOrder_165 : decode cX3_laysOrder 165 = .ok (.iload 7, 2) := dk_21 7 (dk_at dksX3_laysOrder_7 1 rfl rfl)
theorem dX3_laysOrder_167 : decode cX3_laysOrder 167 = .ok (.iload 8, 2) := dk_21 8 (dk_at dksX3_laysOrder_7 3 rfl rfl)
theorem dX3_laysOrder_169 : decode cX3_laysOrder 169 = .ok (.invokestatic 286, 3) := dk_184 1 30 (dk_at dksX3_laysOrder_7 5 rfl rfl)
theorem dX3_laysOrder_172 : decode cX3_laysOrder 172 = .ok (.l2i, 1) := dk_136 (dk_at dksX3_laysOrder_7 8 rfl rfl)
theorem dX3_laysOrder_173 : decode cX3_laysOrder 173 = .ok (.istore 17, 2) := dk_54 17 (dk_at dksX3_laysOrder_7 9 rfl rfl)
theorem dX3_laysOrder_175 : decode cX3_laysOrder 175 = .ok (.iload 7, 2) := dk_21 7 (dk_at dksX3_laysOrder_7 11 rfl rfl)
theorem dX3_laysOrder_177 : decode cX3_laysOrder 177 = .ok (.ifCond .ne 7, 3) := dk_154 0 7 (dk_at dksX3_laysOrder_7 13 rfl rfl)
theorem dX3_laysOrder_180 : decode cX3_laysOrder 180 = .ok (.iconst 0, 1) := dk_3 (dk_at dksX3_laysOrder_7 16 rfl rfl)
theorem dX3_laysOrder_181 : decode cX3_laysOrder 181 = .ok (.goto 17, 3) := dk_167 0 17 (dk_at dksX3_laysOrder_7 17 rfl rfl)
theorem dX3_laysOrder_184 : decode cX3_laysOrder 184 = .ok (.iload 5, 2) := dk_21 5 (dk_at dksX3_laysOrder_7 20 rfl rfl)
theorem dX3_laysOrder_186 : decode cX3_laysOrder 186 = .ok (.iload 6, 2) := dk_21 6 (dk_at dksX3_laysOrder_7 22 rfl rfl)
theorem dX3_laysOrder_188 : decode cX3_laysOrder 188 = .ok (.iload 7, 2) := dk_21 7 (dk_at dksX3_laysOrder_8 0 rfl rfl)
theorem dX3_laysOrder_190 : decode cX3_laysOrder 190 = .ok (.iconst 1, 1) := dk_4 (dk_at dksX3_laysOrder_8 2 rfl rfl)
theorem dX3_laysOrder_191 : decode cX3_laysOrder 191 = .ok (.isub, 1) := dk_100 (dk_at dksX3_laysOrder_8 3 rfl rfl)
theorem dX3_laysOrder_192 : decode cX3_laysOrder 192 = .ok (.iload 8, 2) := dk_21 8 (dk_at dksX3_laysOrder_8 4 rfl rfl)
theorem dX3_laysOrder_194 : decode cX3_laysOrder 194 = .ok (.invokestatic 286, 3) := dk_184 1 30 (dk_at dksX3_laysOrder_8 6 rfl rfl)
theorem dX3_laysOrder_197 : decode cX3_laysOrder 197 = .ok (.l2i, 1) := dk_136 (dk_at dksX3_laysOrder_8 9 rfl rfl)
theorem dX3_laysOrder_198 : decode cX3_laysOrder 198 = .ok (.istore 18, 2) := dk_54 18 (dk_at dksX3_laysOrder_8 10 rfl rfl)
theorem dX3_laysOrder_200 : decode cX3_laysOrder 200 = .ok (.iload 10, 2) := dk_21 10 (dk_at dksX3_laysOrder_8 12 rfl rfl)
theorem dX3_laysOrder_202 : decode cX3_laysOrder 202 = .ok (.iload 16, 2) := dk_21 16 (dk_at dksX3_laysOrder_8 14 rfl rfl)
theorem dX3_laysOrder_204 : decode cX3_laysOrder 204 = .ok (.if_icmp .ge 26, 3) := dk_162 0 26 (dk_at dksX3_laysOrder_8 16 rfl rfl)
theorem dX3_laysOrder_207 : decode cX3_laysOrder 207 = .ok (.aload_n 0, 1) := dk_42 (dk_at dksX3_laysOrder_8 19 rfl rfl)
theorem dX3_laysOrder_208 : decode cX3_laysOrder 208 = .ok (.getfield 75, 3) := dk_180 0 75 (dk_at dksX3_laysOrder_8 20 rfl rfl)
theorem dX3_laysOrder_211 : decode cX3_laysOrder 211 = .ok (.iload 15, 2) := dk_21 15 (dk_at dksX3_laysOrder_9 0 rfl rfl)
theorem dX3_laysOrder_213 : decode cX3_laysOrder 213 = .ok (.aload_n 0, 1) := dk_42 (dk_at dksX3_laysOrder_9 2 rfl rfl)
theorem dX3_laysOrder_214 : decode cX3_laysOrder 214 = .ok (.getfield 36, 3) := dk_180 0 36 (dk_at dksX3_laysOrder_9 3 rfl rfl)
theorem dX3_laysOrder_217 : decode cX3_laysOrder 217 = .ok (.iload 11, 2) := dk_21 11 (dk_at dksX3_laysOrder_9 6 rfl rfl)
theorem dX3_laysOrder_219 : decode cX3_laysOrder 219 = .ok (.iaload, 1) := dk_46 (dk_at dksX3_laysOrder_9 8 rfl rfl)
theorem dX3_laysOrder_220 : decode cX3_laysOrder 220 = .ok (.iastore, 1) := dk_79 (dk_at dksX3_laysOrder_9 9 rfl rfl)
theorem dX3_laysOrder_221 : decode cX3_laysOrder 221 = .ok (.iinc 11 1, 3) := dk_132 11 1 (dk_at dksX3_laysOrder_9 10 rfl rfl)
theorem dX3_laysOrder_224 : decode cX3_laysOrder 224 = .ok (.iinc 5 (-1), 3) := dk_132 5 255 (dk_at dksX3_laysOrder_9 13 rfl rfl)
theorem dX3_laysOrder_227 : decode cX3_laysOrder 227 = .ok (.goto 122, 3) := dk_167 0 122 (dk_at dksX3_laysOrder_9 16 rfl rfl)
theorem dX3_laysOrder_230 : decode cX3_laysOrder 230 = .ok (.iload 10, 2) := dk_21 10 (dk_at dksX3_laysOrder_9 19 rfl rfl)
theorem dX3_laysOrder_232 : decode cX3_laysOrder 232 = .ok (.iload 16, 2) := dk_21 16 (dk_at dksX3_laysOrder_9 21 rfl rfl)
theorem dX3_laysOrder_234 : decode cX3_laysOrder 234 = .ok (.iload 17, 2) := dk_21 17 (dk_at dksX3_laysOrder_10 0 rfl rfl)
theorem dX3_laysOrder_236 : decode cX3_laysOrder 236 = .ok (.iadd, 1) := dk_96 (dk_at dksX3_laysOrder_10 2 rfl rfl)
theorem dX3_laysOrder_237 : decode cX3_laysOrder 237 = .ok (.if_icmp .ge 33, 3) := dk_162 0 33 (dk_at dksX3_laysOrder_10 3 rfl rfl)
theorem dX3_laysOrder_240 : decode cX3_laysOrder 240 = .ok (.iload 10, 2) := dk_21 10 (dk_at dksX3_laysOrder_10 6 rfl rfl)
theorem dX3_laysOrder_242 : decode cX3_laysOrder 242 = .ok (.iload 16, 2) := dk_21 16 (dk_at dksX3_laysOrder_10 8 rfl rfl)
theorem dX3_laysOrder_244 : decode cX3_laysOrder 244 = .ok (.isub, 1) := dk_100 (dk_at dksX3_laysOrder_10 10 rfl rfl)
theorem dX3_laysOrder_245 : decode cX3_laysOrder 245 = .ok (.istore 10, 2) := dk_54 10 (dk_at dksX3_laysOrder_10 11 rfl rfl)
theorem dX3_laysOrder_247 : decode cX3_laysOrder 247 = .ok (.aload_n 0, 1) := dk_42 (dk_at dksX3_laysOrder_10 13 rfl rfl)
theorem dX3_laysOrder_248 : decode cX3_laysOrder 248 = .ok (.getfield 75, 3) := dk_180 0 75 (dk_at dksX3_laysOrder_10 14 rfl rfl)
theorem dX3_laysOrder_251 : decode cX3_laysOrder 251 = .ok (.iload 15, 2) := dk_21 15 (dk_at dksX3_laysOrder_10 17 rfl rfl)
theorem dX3_laysOrder_253 : decode cX3_laysOrder 253 = .ok (.aload_n 0, 1) := dk_42 (dk_at dksX3_laysOrder_10 19 rfl rfl)
theorem dX3_laysOrder_254 : decode cX3_laysOrder 254 = .ok (.getfield 36, 3) := dk_180 0 36 (dk_at dksX3_laysOrder_10 20 rfl rfl)
theorem dX3_laysOrder_257 : decode cX3_laysOrder 257 = .ok (.iload 12, 2) := dk_21 12 (dk_at dksX3_laysOrder_11 0 rfl rfl)
theorem dX3_laysOrder_259 : decode cX3_laysOrder 259 = .ok (.iaload, 1) := dk_46 (dk_at dksX3_laysOrder_11 2 rfl rfl)
theorem dX3_laysOrder_260 : decode cX3_laysOrder 260 = .ok (.iastore, 1) := dk_79 (dk_at dksX3_laysOrder_11 3 rfl rfl)
theorem dX3_laysOrder_261 : decode cX3_laysOrder 261 = .ok (.iinc 12 1, 3) := dk_132 12 1 (dk_at dksX3_laysOrder_11 4 rfl rfl)
theorem dX3_laysOrder_264 : decode cX3_laysOrder 264 = .ok (.iinc 6 (-1), 3) := dk_132 6 255 (dk_at dksX3_laysOrder_11 7 rfl rfl)
theorem dX3_laysOrder_267 : decode cX3_laysOrder 267 = .ok (.goto 82, 3) := dk_167 0 82 (dk_at dksX3_laysOrder_11 10 rfl rfl)
theorem dX3_laysOrder_270 : decode cX3_laysOrder 270 = .ok (.iload 10, 2) := dk_21 10 (dk_at dksX3_laysOrder_11 13 rfl rfl)
theorem dX3_laysOrder_272 : decode cX3_laysOrder 272 = .ok (.iload 16, 2) := dk_21 16 (dk_at dksX3_laysOrder_11 15 rfl rfl)
theorem dX3_laysOrder_274 : decode cX3_laysOrder 274 = .ok (.iload 17, 2) := dk_21 17 (dk_at dksX3_laysOrder_11 17 rfl rfl)
theorem dX3_laysOrder_276 : decode cX3_laysOrder 276 = .ok (.iadd, 1) := dk_96 (dk_at dksX3_laysOrder_11 19 rfl rfl)
theorem dX3_laysOrder_277 : decode cX3_laysOrder 277 = .ok (.iload 18, 2) := dk_21 18 (dk_at dksX3_laysOrder_11 20 rfl rfl)
theorem dX3_laysOrder_279 : decode cX3_laysOrder 279 = .ok (.iadd, 1) := dk_96 (dk_at dksX3_laysOrder_11 22 rfl rfl)
theorem dX3_laysOrder_280 : decode cX3_laysOrder 280 = .ok (.if_icmp .ge 36, 3) := dk_162 0 36 (dk_at dksX3_laysOrder_12 0 rfl rfl)
theorem dX3_laysOrder_283 : decode cX3_laysOrder 283 = .ok (.iload 10, 2) := dk_21 10 (dk_at dksX3_laysOrder_12 3 rfl rfl)
theorem dX3_laysOrder_285 : decode cX3_laysOrder 285 = .ok (.iload 16, 2) := dk_21 16 (dk_at dksX3_laysOrder_12 5 rfl rfl)
theorem dX3_laysOrder_287 : decode cX3_laysOrder 287 = .ok (.iload 17, 2) := dk_21 17 (dk_at dksX3_laysOrder_12 7 rfl rfl)
theorem dX3_laysOrder_289 : decode cX3_laysOrder 289 = .ok (.iadd, 1) := dk_96 (dk_at dksX3_laysOrder_12 9 rfl rfl)
theorem dX3_laysOrder_290 : decode cX3_laysOrder 290 = .ok (.isub, 1) := dk_100 (dk_at dksX3_laysOrder_12 10 rfl rfl)
theorem dX3_laysOrder_291 : decode cX3_laysOrder 291 = .ok (.istore 10, 2) := dk_54 10 (dk_at dksX3_laysOrder_12 11 rfl rfl)
theorem dX3_laysOrder_293 : decode cX3_laysOrder 293 = .ok (.aload_n 0, 1) := dk_42 (dk_at dksX3_laysOrder_12 13 rfl rfl)
theorem dX3_laysOrder_294 : decode cX3_laysOrder 294 = .ok (.getfield 75, 3) := dk_180 0 75 (dk_at dksX3_laysOrder_12 14 rfl rfl)
theorem dX3_laysOrder_297 : decode cX3_laysOrder 297 = .ok (.iload 15, 2) := dk_21 15 (dk_at dksX3_laysOrder_12 17 rfl rfl)
theorem dX3_laysOrder_299 : decode cX3_laysOrder 299 = .ok (.aload_n 0, 1) := dk_42 (dk_at dksX3_laysOrder_12 19 rfl rfl)
theorem dX3_laysOrder_300 : decode cX3_laysOrder 300 = .ok (.getfield 36, 3) := dk_180 0 36 (dk_at dksX3_laysOrder_12 20 rfl rfl)
theorem dX3_laysOrder_303 : decode cX3_laysOrder 303 = .ok (.iload 13, 2) := dk_21 13 (dk_at dksX3_laysOrder_13 0 rfl rfl)
theorem dX3_laysOrder_305 : decode cX3_laysOrder 305 = .ok (.iaload, 1) := dk_46 (dk_at dksX3_laysOrder_13 2 rfl rfl)
theorem dX3_laysOrder_306 : decode cX3_laysOrder 306 = .ok (.iastore, 1) := dk_79 (dk_at dksX3_laysOrder_13 3 rfl rfl)
theorem dX3_laysOrder_307 : decode cX3_laysOrder 307 = .ok (.iinc 13 1, 3) := dk_132 13 1 (dk_at dksX3_laysOrder_13 4 rfl rfl)
theorem dX3_laysOrder_310 : decode cX3_laysOrder 310 = .ok (.iinc 7 (-1), 3) := dk_132 7 255 (dk_at dksX3_laysOrder_13 7 rfl rfl)
theorem dX3_laysOrder_313 : decode cX3_laysOrder 313 = .ok (.goto 36, 3) := dk_167 0 36 (dk_at dksX3_laysOrder_13 10 rfl rfl)
theorem dX3_laysOrder_316 : decode cX3_laysOrder 316 = .ok (.iload 10, 2) := dk_21 10 (dk_at dksX3_laysOrder_13 13 rfl rfl)
theorem dX3_laysOrder_318 : decode cX3_laysOrder 318 = .ok (.iload 16, 2) := dk_21 16 (dk_at dksX3_laysOrder_13 15 rfl rfl)
theorem dX3_laysOrder_320 : decode cX3_laysOrder 320 = .ok (.iload 17, 2) := dk_21 17 (dk_at dksX3_laysOrder_13 17 rfl rfl)
theorem dX3_laysOrder_322 : decode cX3_laysOrder 322 = .ok (.iadd, 1) := dk_96 (dk_at dksX3_laysOrder_13 19 rfl rfl)
theorem dX3_laysOrder_323 : decode cX3_laysOrder 323 = .ok (.iload 18, 2) := dk_21 18 (dk_at dksX3_laysOrder_13 20 rfl rfl)
theorem dX3_laysOrder_325 : decode cX3_laysOrder 325 = .ok (.iadd, 1) := dk_96 (dk_at dksX3_laysOrder_13 22 rfl rfl)
theorem dX3_laysOrder_326 : decode cX3_laysOrder 326 = .ok (.isub, 1) := dk_100 (dk_at dksX3_laysOrder_13 23 rfl rfl)
theorem dX3_laysOrder_327 : decode cX3_laysOrder 327 = .ok (.istore 10, 2) := dk_54 10 (dk_at dksX3_laysOrder_14 0 rfl rfl)
theorem dX3_laysOrder_329 : decode cX3_laysOrder 329 = .ok (.aload_n 0, 1) := dk_42 (dk_at dksX3_laysOrder_14 2 rfl rfl)
theorem dX3_laysOrder_330 : decode cX3_laysOrder 330 = .ok (.getfield 75, 3) := dk_180 0 75 (dk_at dksX3_laysOrder_14 3 rfl rfl)
theorem dX3_laysOrder_333 : decode cX3_laysOrder 333 = .ok (.iload 15, 2) := dk_21 15 (dk_at dksX3_laysOrder_14 6 rfl rfl)
theorem dX3_laysOrder_335 : decode cX3_laysOrder 335 = .ok (.aload_n 0, 1) := dk_42 (dk_at dksX3_laysOrder_14 8 rfl rfl)
theorem dX3_laysOrder_336 : decode cX3_laysOrder 336 = .ok (.getfield 36, 3) := dk_180 0 36 (dk_at dksX3_laysOrder_14 9 rfl rfl)
theorem dX3_laysOrder_339 : decode cX3_laysOrder 339 = .ok (.iload 14, 2) := dk_21 14 (dk_at dksX3_laysOrder_14 12 rfl rfl)
theorem dX3_laysOrder_341 : decode cX3_laysOrder 341 = .ok (.iaload, 1) := dk_46 (dk_at dksX3_laysOrder_14 14 rfl rfl)
theorem dX3_laysOrder_342 : decode cX3_laysOrder 342 = .ok (.iastore, 1) := dk_79 (dk_at dksX3_laysOrder_14 15 rfl rfl)
theorem dX3_laysOrder_343 : decode cX3_laysOrder 343 = .ok (.iinc 14 1, 3) := dk_132 14 1 (dk_at dksX3_laysOrder_14 16 rfl rfl)
theorem dX3_laysOrder_346 : decode cX3_laysOrder 346 = .ok (.iinc 8 (-1), 3) := dk_132 8 255 (dk_at dksX3_laysOrder_14 19 rfl rfl)
theorem dX3_laysOrder_349 : decode cX3_laysOrder 349 = .ok (.iinc 15 1, 3) := dk_132 15 1 (dk_at dksX3_laysOrder_15 0 rfl rfl)
theorem dX3_laysOrder_352 : decode cX3_laysOrder 352 = .ok (.goto (-234), 3) := dk_167 255 22 (dk_at dksX3_laysOrder_15 3 rfl rfl)
theorem dX3_laysOrder_355 : decode cX3_laysOrder 355 = .ok (.iload 4, 2) := dk_21 4 (dk_at dksX3_laysOrder_15 6 rfl rfl)
theorem dX3_laysOrder_357 : decode cX3_laysOrder 357 = .ok (.istore_n 3, 1) := dk_62 (dk_at dksX3_laysOrder_15 8 rfl rfl)
theorem dX3_laysOrder_358 : decode cX3_laysOrder 358 = .ok (.goto (-346), 3) := dk_167 254 166 (dk_at dksX3_laysOrder_15 9 rfl rfl)
theorem dX3_laysOrder_361 : decode cX3_laysOrder 361 = .ok (.return_, 1) := dk_177 (dk_at dksX3_laysOrder_15 12 rfl rfl)
abbrev cX3_explanation : ByteArray := prog_13_method_100_code
def yX3_explanation : MethodName := ⟨RX3, "explanation", "(II)I"⟩
def dkwX3_explanation_0 : List UInt8 := [42, 27, 28, 3, 182, 1, 62, 172]
abbrev dktX3_explanation_0 : List UInt8 := dkwX3_explanation_0 ++ []
theorem dksX3_explanation_0 : cX3_explanation.data.toList.drop 0 = dktX3_explanation_0 := by decide +kernel
theorem dX3_explanation_0 : decode cX3_explanation 0 = .ok (.aload_n 0, 1) := dk_42 (dk_at dksX3_explanation_0 0 rfl rfl)
theorem dX3_explanation_1 : decode cX3_explanation 1 = .ok (.iload_n 1, 1) := dk_27 (dk_at dksX3_explanation_0 1 rfl rfl)
theorem dX3_explanation_2 : decode cX3_explanation 2 = .ok (.iload_n 2, 1) := dk_28 (dk_at dksX3_explanation_0 2 rfl rfl)
theorem dX3_explanation_3 : decode cX3_explanation 3 = .ok (.iconst 0, 1) := dk_3 (dk_at dksX3_explanation_0 3 rfl rfl)
theorem dX3_explanation_4 : decode cX3_explanation 4 = .ok (.invokevirtual 318, 3) := dk_182 1 62 (dk_at dksX3_explanation_0 4 rfl rfl)
theorem dX3_explanation_7 : decode cX3_explanation 7 = .ok (.ireturn, 1) := dk_172 (dk_at dksX3_explanation_0 7 rfl rfl)
abbrev cX3_tellsLeast : ByteArray := prog_13_method_98_code
def yX3_tellsLeast : MethodName := ⟨RX3, "tellsLeast", "(IIZ)I"⟩
def dkwX3_tellsLeast_2 : List UInt8 := [28, 29, 182, 1, 56, 54, 4, 21, 4, 154, 0, 7, 2, 167, 0, 8, 21, 4, 184, 1, 59, 172]
abbrev dktX3_tellsLeast_2 : List UInt8 := dkwX3_tellsLeast_2 ++ []
def dkwX3_tellsLeast_1 : List UInt8 := [180, 0, 91, 16, 16, 163, 0, 7, 4, 167, 0, 4, 3, 4, 182, 0, 181, 154, 0, 5, 3, 172, 42, 27]
abbrev dktX3_tellsLeast_1 : List UInt8 := dkwX3_tellsLeast_1 ++ dktX3_tellsLeast_2
def dkwX3_tellsLeast_0 : List UInt8 := [42, 42, 27, 182, 0, 249, 153, 0, 15, 42, 28, 182, 0, 240, 153, 0, 7, 4, 167, 0, 4, 3, 42]
abbrev dktX3_tellsLeast_0 : List UInt8 := dkwX3_tellsLeast_0 ++ dktX3_tellsLeast_1
theorem dksX3_tellsLeast_0 : cX3_tellsLeast.data.toList.drop 0 = dktX3_tellsLeast_0 := by decide +kernel
theorem dksX3_tellsLeast_1 : cX3_tellsLeast.data.toList.drop 23 = dktX3_tellsLeast_1 := dk_seg dksX3_tellsLeast_0 23 rfl rfl
theorem dksX3_tellsLeast_2 : cX3_tellsLeast.data.toList.drop 47 = dktX3_tellsLeast_2 := dk_seg dksX3_tellsLeast_1 24 rfl rfl
theorem dX3_tellsLeast_0 : decode cX3_tellsLeast 0 = .ok (.aload_n 0, 1) := dk_42 (dk_at dksX3_tellsLeast_0 0 rfl rfl)
theorem dX3_tellsLeast_1 : decode cX3_tellsLeast 1 = .ok (.aload_n 0, 1) := dk_42 (dk_at dksX3_tellsLeast_0 1 rfl rfl)
theorem dX3_tellsLeast_2 : decode cX3_tellsLeast 2 = .ok (.iload_n 1, 1) := dk_27 (dk_at dksX3_tellsLeast_0 2 rfl rfl)
theorem dX3_tellsLeast_3 : decode cX3_tellsLeast 3 = .ok (.invokevirtual 249, 3) := dk_182 0 249 (dk_at dksX3_tellsLeast_0 3 rfl rfl)
theorem dX3_tellsLeast_6 : decode cX3_tellsLeast 6 = .ok (.ifCond .eq 15, 3) := dk_153 0 15 (dk_at dksX3_tellsLeast_0 6 rfl rfl)
theorem dX3_tellsLeast_9 : decode cX3_tellsLeast 9 = .ok (.aload_n 0, 1) := dk_42 (dk_at dksX3_tellsLeast_0 9 rfl rfl)
theorem dX3_tellsLeast_10 : decode cX3_tellsLeast 10 = .ok (.iload_n 2, 1) := dk_28 (dk_at dksX3_tellsLeast_0 10 rfl rfl)
theorem dX3_tellsLeast_11 : decode cX3_tellsLeast 11 = .ok (.invokevirtual 240, 3) := dk_182 0 240 (dk_at dksX3_tellsLeast_0 11 rfl rfl)
theorem dX3_tellsLeast_14 : decode cX3_tellsLeast 14 = .ok (.ifCond .eq 7, 3) := dk_153 0 7 (dk_at dksX3_tellsLeast_0 14 rfl rfl)
theorem dX3_tellsLeast_17 : decode cX3_tellsLeast 17 = .ok (.iconst 1, 1) := dk_4 (dk_at dksX3_tellsLeast_0 17 rfl rfl)
theorem dX3_tellsLeast_18 : decode cX3_tellsLeast 18 = .ok (.goto 4, 3) := dk_167 0 4 (dk_at dksX3_tellsLeast_0 18 rfl rfl)
theorem dX3_tellsLeast_21 : decode cX3_tellsLeast 21 = .ok (.iconst 0, 1) := dk_3 (dk_at dksX3_tellsLeast_0 21 rfl rfl)
theorem dX3_tellsLeast_22 : decode cX3_tellsLeast 22 = .ok (.aload_n 0, 1) := dk_42 (dk_at dksX3_tellsLeast_0 22 rfl rfl)
theorem dX3_tellsLeast_23 : decode cX3_tellsLeast 23 = .ok (.getfield 91, 3) := dk_180 0 91 (dk_at dksX3_tellsLeast_1 0 rfl rfl)
theorem dX3_tellsLeast_26 : decode cX3_tellsLeast 26 = .ok (.bipush 16, 2) := dk_16 16 (dk_at dksX3_tellsLeast_1 3 rfl rfl)
theorem dX3_tellsLeast_28 : decode cX3_tellsLeast 28 = .ok (.if_icmp .gt 7, 3) := dk_163 0 7 (dk_at dksX3_tellsLeast_1 5 rfl rfl)
theorem dX3_tellsLeast_31 : decode cX3_tellsLeast 31 = .ok (.iconst 1, 1) := dk_4 (dk_at dksX3_tellsLeast_1 8 rfl rfl)
theorem dX3_tellsLeast_32 : decode cX3_tellsLeast 32 = .ok (.goto 4, 3) := dk_167 0 4 (dk_at dksX3_tellsLeast_1 9 rfl rfl)
theorem dX3_tellsLeast_35 : decode cX3_tellsLeast 35 = .ok (.iconst 0, 1) := dk_3 (dk_at dksX3_tellsLeast_1 12 rfl rfl)
theorem dX3_tellsLeast_36 : decode cX3_tellsLeast 36 = .ok (.iconst 1, 1) := dk_4 (dk_at dksX3_tellsLeast_1 13 rfl rfl)
theorem dX3_tellsLeast_37 : decode cX3_tellsLeast 37 = .ok (.invokevirtual 181, 3) := dk_182 0 181 (dk_at dksX3_tellsLeast_1 14 rfl rfl)
theorem dX3_tellsLeast_40 : decode cX3_tellsLeast 40 = .ok (.ifCond .ne 5, 3) := dk_154 0 5 (dk_at dksX3_tellsLeast_1 17 rfl rfl)
theorem dX3_tellsLeast_43 : decode cX3_tellsLeast 43 = .ok (.iconst 0, 1) := dk_3 (dk_at dksX3_tellsLeast_1 20 rfl rfl)
theorem dX3_tellsLeast_44 : decode cX3_tellsLeast 44 = .ok (.ireturn, 1) := dk_172 (dk_at dksX3_tellsLeast_1 21 rfl rfl)
theorem dX3_tellsLeast_45 : decode cX3_tellsLeast 45 = .ok (.aload_n 0, 1) := dk_42 (dk_at dksX3_tellsLeast_1 22 rfl rfl)
theorem dX3_tellsLeast_46 : decode cX3_tellsLeast 46 = .ok (.iload_n 1, 1) := dk_27 (dk_at dksX3_tellsLeast_1 23 rfl rfl)
theorem dX3_tellsLeast_47 : decode cX3_tellsLeast 47 = .ok (.iload_n 2, 1) := dk_28 (dk_at dksX3_tellsLeast_2 0 rfl rfl)
theorem dX3_tellsLeast_48 : decode cX3_tellsLeast 48 = .ok (.iload_n 3, 1) := dk_29 (dk_at dksX3_tellsLeast_2 1 rfl rfl)
theorem dX3_tellsLeast_49 : decode cX3_tellsLeast 49 = .ok (.invokevirtual 312, 3) := dk_182 1 56 (dk_at dksX3_tellsLeast_2 2 rfl rfl)
theorem dX3_tellsLeast_52 : decode cX3_tellsLeast 52 = .ok (.istore 4, 2) := dk_54 4 (dk_at dksX3_tellsLeast_2 5 rfl rfl)
theorem dX3_tellsLeast_54 : decode cX3_tellsLeast 54 = .ok (.iload 4, 2) := dk_21 4 (dk_at dksX3_tellsLeast_2 7 rfl rfl)
theorem dX3_tellsLeast_56 : decode cX3_tellsLeast 56 = .ok (.ifCond .ne 7, 3) := dk_154 0 7 (dk_at dksX3_tellsLeast_2 9 rfl rfl)
theorem dX3_tellsLeast_59 : decode cX3_tellsLeast 59 = .ok (.iconst (-1), 1) := dk_2 (dk_at dksX3_tellsLeast_2 12 rfl rfl)
theorem dX3_tellsLeast_60 : decode cX3_tellsLeast 60 = .ok (.goto 8, 3) := dk_167 0 8 (dk_at dksX3_tellsLeast_2 13 rfl rfl)
theorem dX3_tellsLeast_63 : decode cX3_tellsLeast 63 = .ok (.iload 4, 2) := dk_21 4 (dk_at dksX3_tellsLeast_2 16 rfl rfl)
theorem dX3_tellsLeast_65 : decode cX3_tellsLeast 65 = .ok (.invokestatic 315, 3) := dk_184 1 59 (dk_at dksX3_tellsLeast_2 18 rfl rfl)
theorem dX3_tellsLeast_68 : decode cX3_tellsLeast 68 = .ok (.ireturn, 1) := dk_172 (dk_at dksX3_tellsLeast_2 21 rfl rfl)
abbrev cX3_least : ByteArray := prog_13_method_97_code
def yX3_least : MethodName := ⟨RX3, "least", "(IIZ)I"⟩
def dkwX3_least_7 : List UInt8 := [21, 4, 54, 4, 21, 9, 184, 1, 53, 54, 9, 167, 255, 151, 132, 8, 1, 167, 255, 111, 21, 4, 172]
abbrev dktX3_least_7 : List UInt8 := dkwX3_least_7 ++ []
def dkwX3_least_6 : List UInt8 := [182, 1, 50, 29, 159, 0, 7, 4, 167, 0, 4, 3, 54, 11, 21, 11, 153, 0, 8, 21, 9, 167, 0, 5]
abbrev dktX3_least_6 : List UInt8 := dkwX3_least_6 ++ dktX3_least_7
def dkwX3_least_5 : List UInt8 := [153, 0, 33, 42, 27, 28, 29, 153, 0, 13, 21, 7, 21, 9, 2, 130, 126, 167, 0, 5, 21, 9]
abbrev dktX3_least_5 : List UInt8 := dkwX3_least_5 ++ dktX3_least_6
def dkwX3_least_4 : List UInt8 := [153, 0, 13, 21, 9, 21, 4, 184, 1, 47, 153, 0, 7, 4, 167, 0, 4, 3, 54, 10, 21, 10]
abbrev dktX3_least_4 : List UInt8 := dkwX3_least_4 ++ dktX3_least_5
def dkwX3_least_3 : List UInt8 := [21, 7, 163, 0, 104, 21, 9, 21, 5, 126, 154, 0, 7, 4, 167, 0, 4, 3, 29, 160, 0, 22, 21, 4]
abbrev dktX3_least_3 : List UInt8 := dkwX3_least_3 ++ dktX3_least_4
def dkwX3_least_2 : List UInt8 := [42, 180, 0, 66, 16, 80, 27, 104, 28, 96, 46, 154, 0, 125, 4, 21, 8, 120, 4, 100, 54, 9, 21, 9]
abbrev dktX3_least_2 : List UInt8 := dkwX3_least_2 ++ dktX3_least_3
def dkwX3_least_1 : List UInt8 := [42, 180, 0, 91, 120, 4, 100, 54, 7, 4, 54, 8, 21, 8, 21, 6, 163, 0, 144, 21, 4, 154, 0, 139]
abbrev dktX3_least_1 : List UInt8 := dkwX3_least_1 ++ dktX3_least_2
def dkwX3_least_0 : List UInt8 := [3, 54, 4, 4, 42, 28, 182, 1, 44, 120, 54, 5, 29, 153, 0, 7, 6, 167, 0, 4, 7, 54, 6, 4]
abbrev dktX3_least_0 : List UInt8 := dkwX3_least_0 ++ dktX3_least_1
theorem dksX3_least_0 : cX3_least.data.toList.drop 0 = dktX3_least_0 := by decide +kernel
theorem dksX3_least_1 : cX3_least.data.toList.drop 24 = dktX3_least_1 := dk_seg dksX3_least_0 24 rfl rfl
theorem dksX3_least_2 : cX3_least.data.toList.drop 48 = dktX3_least_2 := dk_seg dksX3_least_1 24 rfl rfl
theorem dksX3_least_3 : cX3_least.data.toList.drop 72 = dktX3_least_3 := dk_seg dksX3_least_2 24 rfl rfl
theorem dksX3_least_4 : cX3_least.data.toList.drop 96 = dktX3_least_4 := dk_seg dksX3_least_3 24 rfl rfl
theorem dksX3_least_5 : cX3_least.data.toList.drop 118 = dktX3_least_5 := dk_seg dksX3_least_4 22 rfl rfl
theorem dksX3_least_6 : cX3_least.data.toList.drop 140 = dktX3_least_6 := dk_seg dksX3_least_5 22 rfl rfl
theorem dksX3_least_7 : cX3_least.data.toList.drop 164 = dktX3_least_7 := dk_seg dksX3_least_6 24 rfl rfl
theorem dX3_least_0 : decode cX3_least 0 = .ok (.iconst 0, 1) := dk_3 (dk_at dksX3_least_0 0 rfl rfl)
theorem dX3_least_1 : decode cX3_least 1 = .ok (.istore 4, 2) := dk_54 4 (dk_at dksX3_least_0 1 rfl rfl)
theorem dX3_least_3 : decode cX3_least 3 = .ok (.iconst 1, 1) := dk_4 (dk_at dksX3_least_0 3 rfl rfl)
theorem dX3_least_4 : decode cX3_least 4 = .ok (.aload_n 0, 1) := dk_42 (dk_at dksX3_least_0 4 rfl rfl)
theorem dX3_least_5 : decode cX3_least 5 = .ok (.iload_n 2, 1) := dk_28 (dk_at dksX3_least_0 5 rfl rfl)
theorem dX3_least_6 : decode cX3_least 6 = .ok (.invokevirtual 300, 3) := dk_182 1 44 (dk_at dksX3_least_0 6 rfl rfl)
theorem dX3_least_9 : decode cX3_least 9 = .ok (.ishl, 1) := dk_120 (dk_at dksX3_least_0 9 rfl rfl)
theorem dX3_least_10 : decode cX3_least 10 = .ok (.istore 5, 2) := dk_54 5 (dk_at dksX3_least_0 10 rfl rfl)
theorem dX3_least_12 : decode cX3_least 12 = .ok (.iload_n 3, 1) := dk_29 (dk_at dksX3_least_0 12 rfl rfl)
theorem dX3_least_13 : decode cX3_least 13 = .ok (.ifCond .eq 7, 3) := dk_153 0 7 (dk_at dksX3_least_0 13 rfl rfl)
theorem dX3_least_16 : decode cX3_least 16 = .ok (.iconst 3, 1) := dk_6 (dk_at dksX3_least_0 16 rfl rfl)
theorem dX3_least_17 : decode cX3_least 17 = .ok (.goto 4, 3) := dk_167 0 4 (dk_at dksX3_least_0 17 rfl rfl)
theorem dX3_least_20 : decode cX3_least 20 = .ok (.iconst 4, 1) := dk_7 (dk_at dksX3_least_0 20 rfl rfl)
theorem dX3_least_21 : decode cX3_least 21 = .ok (.istore 6, 2) := dk_54 6 (dk_at dksX3_least_0 21 rfl rfl)
theorem dX3_least_23 : decode cX3_least 23 = .ok (.iconst 1, 1) := dk_4 (dk_at dksX3_least_0 23 rfl rfl)
theorem dX3_least_24 : decode cX3_least 24 = .ok (.aload_n 0, 1) := dk_42 (dk_at dksX3_least_1 0 rfl rfl)
theorem dX3_least_25 : decode cX3_least 25 = .ok (.getfield 91, 3) := dk_180 0 91 (dk_at dksX3_least_1 1 rfl rfl)
theorem dX3_least_28 : decode cX3_least 28 = .ok (.ishl, 1) := dk_120 (dk_at dksX3_least_1 4 rfl rfl)
theorem dX3_least_29 : decode cX3_least 29 = .ok (.iconst 1, 1) := dk_4 (dk_at dksX3_least_1 5 rfl rfl)
theorem dX3_least_30 : decode cX3_least 30 = .ok (.isub, 1) := dk_100 (dk_at dksX3_least_1 6 rfl rfl)
theorem dX3_least_31 : decode cX3_least 31 = .ok (.istore 7, 2) := dk_54 7 (dk_at dksX3_least_1 7 rfl rfl)
theorem dX3_least_33 : decode cX3_least 33 = .ok (.iconst 1, 1) := dk_4 (dk_at dksX3_least_1 9 rfl rfl)
theorem dX3_least_34 : decode cX3_least 34 = .ok (.istore 8, 2) := dk_54 8 (dk_at dksX3_least_1 10 rfl rfl)
theorem dX3_least_36 : decode cX3_least 36 = .ok (.iload 8, 2) := dk_21 8 (dk_at dksX3_least_1 12 rfl rfl)
theorem dX3_least_38 : decode cX3_least 38 = .ok (.iload 6, 2) := dk_21 6 (dk_at dksX3_least_1 14 rfl rfl)
theorem dX3_least_40 : decode cX3_least 40 = .ok (.if_icmp .gt 144, 3) := dk_163 0 144 (dk_at dksX3_least_1 16 rfl rfl)
theorem dX3_least_43 : decode cX3_least 43 = .ok (.iload 4, 2) := dk_21 4 (dk_at dksX3_least_1 19 rfl rfl)
theorem dX3_least_45 : decode cX3_least 45 = .ok (.ifCond .ne 139, 3) := dk_154 0 139 (dk_at dksX3_least_1 21 rfl rfl)
theorem dX3_least_48 : decode cX3_least 48 = .ok (.aload_n 0, 1) := dk_42 (dk_at dksX3_least_2 0 rfl rfl)
theorem dX3_least_49 : decode cX3_least 49 = .ok (.getfield 66, 3) := dk_180 0 66 (dk_at dksX3_least_2 1 rfl rfl)
theorem dX3_least_52 : decode cX3_least 52 = .ok (.bipush 80, 2) := dk_16 80 (dk_at dksX3_least_2 4 rfl rfl)
theorem dX3_least_54 : decode cX3_least 54 = .ok (.iload_n 1, 1) := dk_27 (dk_at dksX3_least_2 6 rfl rfl)
theorem dX3_least_55 : decode cX3_least 55 = .ok (.imul, 1) := dk_104 (dk_at dksX3_least_2 7 rfl rfl)
theorem dX3_least_56 : decode cX3_least 56 = .ok (.iload_n 2, 1) := dk_28 (dk_at dksX3_least_2 8 rfl rfl)
theorem dX3_least_57 : decode cX3_least 57 = .ok (.iadd, 1) := dk_96 (dk_at dksX3_least_2 9 rfl rfl)
theorem dX3_least_58 : decode cX3_least 58 = .ok (.iaload, 1) := dk_46 (dk_at dksX3_least_2 10 rfl rfl)
theorem dX3_least_59 : decode cX3_least 59 = .ok (.ifCond .ne 125, 3) := dk_154 0 125 (dk_at dksX3_least_2 11 rfl rfl)
theorem dX3_least_62 : decode cX3_least 62 = .ok (.iconst 1, 1) := dk_4 (dk_at dksX3_least_2 14 rfl rfl)
theorem dX3_least_63 : decode cX3_least 63 = .ok (.iload 8, 2) := dk_21 8 (dk_at dksX3_least_2 15 rfl rfl)
theorem dX3_least_65 : decode cX3_least 65 = .ok (.ishl, 1) := dk_120 (dk_at dksX3_least_2 17 rfl rfl)
theorem dX3_least_66 : decode cX3_least 66 = .ok (.iconst 1, 1) := dk_4 (dk_at dksX3_least_2 18 rfl rfl)
theorem dX3_least_67 : decode cX3_least 67 = .ok (.isub, 1) := dk_100 (dk_at dksX3_least_2 19 rfl rfl)
theorem dX3_least_68 : decode cX3_least 68 = .ok (.istore 9, 2) := dk_54 9 (dk_at dksX3_least_2 20 rfl rfl)
theorem dX3_least_70 : decode cX3_least 70 = .ok (.iload 9, 2) := dk_21 9 (dk_at dksX3_least_2 22 rfl rfl)
theorem dX3_least_72 : decode cX3_least 72 = .ok (.iload 7, 2) := dk_21 7 (dk_at dksX3_least_3 0 rfl rfl)
theorem dX3_least_74 : decode cX3_least 74 = .ok (.if_icmp .gt 104, 3) := dk_163 0 104 (dk_at dksX3_least_3 2 rfl rfl)
theorem dX3_least_77 : decode cX3_least 77 = .ok (.iload 9, 2) := dk_21 9 (dk_at dksX3_least_3 5 rfl rfl)
theorem dX3_least_79 : decode cX3_least 79 = .ok (.iload 5, 2) := dk_21 5 (dk_at dksX3_least_3 7 rfl rfl)
theorem dX3_least_81 : decode cX3_least 81 = .ok (.iand, 1) := dk_126 (dk_at dksX3_least_3 9 rfl rfl)
theorem dX3_least_82 : decode cX3_least 82 = .ok (.ifCond .ne 7, 3) := dk_154 0 7 (dk_at dksX3_least_3 10 rfl rfl)
theorem dX3_least_85 : decode cX3_least 85 = .ok (.iconst 1, 1) := dk_4 (dk_at dksX3_least_3 13 rfl rfl)
theorem dX3_least_86 : decode cX3_least 86 = .ok (.goto 4, 3) := dk_167 0 4 (dk_at dksX3_least_3 14 rfl rfl)
theorem dX3_least_89 : decode cX3_least 89 = .ok (.iconst 0, 1) := dk_3 (dk_at dksX3_least_3 17 rfl rfl)
theorem dX3_least_90 : decode cX3_least 90 = .ok (.iload_n 3, 1) := dk_29 (dk_at dksX3_least_3 18 rfl rfl)
theorem dX3_least_91 : decode cX3_least 91 = .ok (.if_icmp .ne 22, 3) := dk_160 0 22 (dk_at dksX3_least_3 19 rfl rfl)
theorem dX3_least_94 : decode cX3_least 94 = .ok (.iload 4, 2) := dk_21 4 (dk_at dksX3_least_3 22 rfl rfl)
theorem dX3_least_96 : decode cX3_least 96 = .ok (.ifCond .eq 13, 3) := dk_153 0 13 (dk_at dksX3_least_4 0 rfl rfl)
theorem dX3_least_99 : decode cX3_least 99 = .ok (.iload 9, 2) := dk_21 9 (dk_at dksX3_least_4 3 rfl rfl)
theorem dX3_least_101 : decode cX3_least 101 = .ok (.iload 4, 2) := dk_21 4 (dk_at dksX3_least_4 5 rfl rfl)
theorem dX3_least_103 : decode cX3_least 103 = .ok (.invokestatic 303, 3) := dk_184 1 47 (dk_at dksX3_least_4 7 rfl rfl)
theorem dX3_least_106 : decode cX3_least 106 = .ok (.ifCond .eq 7, 3) := dk_153 0 7 (dk_at dksX3_least_4 10 rfl rfl)
theorem dX3_least_109 : decode cX3_least 109 = .ok (.iconst 1, 1) := dk_4 (dk_at dksX3_least_4 13 rfl rfl)
theorem dX3_least_110 : decode cX3_least 110 = .ok (.goto 4, 3) := dk_167 0 4 (dk_at dksX3_least_4 14 rfl rfl)
theorem dX3_least_113 : decode cX3_least 113 = .ok (.iconst 0, 1) := dk_3 (dk_at dksX3_least_4 17 rfl rfl)
theorem dX3_least_114 : decode cX3_least 114 = .ok (.istore 10, 2) := dk_54 10 (dk_at dksX3_least_4 18 rfl rfl)
theorem dX3_least_116 : decode cX3_least 116 = .ok (.iload 10, 2) := dk_21 10 (dk_at dksX3_least_4 20 rfl rfl)
theorem dX3_least_118 : decode cX3_least 118 = .ok (.ifCond .eq 33, 3) := dk_153 0 33 (dk_at dksX3_least_5 0 rfl rfl)
theorem dX3_least_121 : decode cX3_least 121 = .ok (.aload_n 0, 1) := dk_42 (dk_at dksX3_least_5 3 rfl rfl)
theorem dX3_least_122 : decode cX3_least 122 = .ok (.iload_n 1, 1) := dk_27 (dk_at dksX3_least_5 4 rfl rfl)
theorem dX3_least_123 : decode cX3_least 123 = .ok (.iload_n 2, 1) := dk_28 (dk_at dksX3_least_5 5 rfl rfl)
theorem dX3_least_124 : decode cX3_least 124 = .ok (.iload_n 3, 1) := dk_29 (dk_at dksX3_least_5 6 rfl rfl)
theorem dX3_least_125 : decode cX3_least 125 = .ok (.ifCond .eq 13, 3) := dk_153 0 13 (dk_at dksX3_least_5 7 rfl rfl)
theorem dX3_least_128 : decode cX3_least 128 = .ok (.iload 7, 2) := dk_21 7 (dk_at dksX3_least_5 10 rfl rfl)
theorem dX3_least_130 : decode cX3_least 130 = .ok (.iload 9, 2) := dk_21 9 (dk_at dksX3_least_5 12 rfl rfl)
theorem dX3_least_132 : decode cX3_least 132 = .ok (.iconst (-1), 1) := dk_2 (dk_at dksX3_least_5 14 rfl rfl)
theorem dX3_least_133 : decode cX3_least 133 = .ok (.ixor, 1) := dk_130 (dk_at dksX3_least_5 15 rfl rfl)
theorem dX3_least_134 : decode cX3_least 134 = .ok (.iand, 1) := dk_126 (dk_at dksX3_least_5 16 rfl rfl)
theorem dX3_least_135 : decode cX3_least 135 = .ok (.goto 5, 3) := dk_167 0 5 (dk_at dksX3_least_5 17 rfl rfl)
theorem dX3_least_138 : decode cX3_least 138 = .ok (.iload 9, 2) := dk_21 9 (dk_at dksX3_least_5 20 rfl rfl)
theorem dX3_least_140 : decode cX3_least 140 = .ok (.invokevirtual 306, 3) := dk_182 1 50 (dk_at dksX3_least_6 0 rfl rfl)
theorem dX3_least_143 : decode cX3_least 143 = .ok (.iload_n 3, 1) := dk_29 (dk_at dksX3_least_6 3 rfl rfl)
theorem dX3_least_144 : decode cX3_least 144 = .ok (.if_icmp .eq 7, 3) := dk_159 0 7 (dk_at dksX3_least_6 4 rfl rfl)
theorem dX3_least_147 : decode cX3_least 147 = .ok (.iconst 1, 1) := dk_4 (dk_at dksX3_least_6 7 rfl rfl)
theorem dX3_least_148 : decode cX3_least 148 = .ok (.goto 4, 3) := dk_167 0 4 (dk_at dksX3_least_6 8 rfl rfl)
theorem dX3_least_151 : decode cX3_least 151 = .ok (.iconst 0, 1) := dk_3 (dk_at dksX3_least_6 11 rfl rfl)
theorem dX3_least_152 : decode cX3_least 152 = .ok (.istore 11, 2) := dk_54 11 (dk_at dksX3_least_6 12 rfl rfl)
theorem dX3_least_154 : decode cX3_least 154 = .ok (.iload 11, 2) := dk_21 11 (dk_at dksX3_least_6 14 rfl rfl)
theorem dX3_least_156 : decode cX3_least 156 = .ok (.ifCond .eq 8, 3) := dk_153 0 8 (dk_at dksX3_least_6 16 rfl rfl)
theorem dX3_least_159 : decode cX3_least 159 = .ok (.iload 9, 2) := dk_21 9 (dk_at dksX3_least_6 19 rfl rfl)
theorem dX3_least_161 : decode cX3_least 161 = .ok (.goto 5, 3) := dk_167 0 5 (dk_at dksX3_least_6 21 rfl rfl)
theorem dX3_least_164 : decode cX3_least 164 = .ok (.iload 4, 2) := dk_21 4 (dk_at dksX3_least_7 0 rfl rfl)
theorem dX3_least_166 : decode cX3_least 166 = .ok (.istore 4, 2) := dk_54 4 (dk_at dksX3_least_7 2 rfl rfl)
theorem dX3_least_168 : decode cX3_least 168 = .ok (.iload 9, 2) := dk_21 9 (dk_at dksX3_least_7 4 rfl rfl)
theorem dX3_least_170 : decode cX3_least 170 = .ok (.invokestatic 309, 3) := dk_184 1 53 (dk_at dksX3_least_7 6 rfl rfl)
theorem dX3_least_173 : decode cX3_least 173 = .ok (.istore 9, 2) := dk_54 9 (dk_at dksX3_least_7 9 rfl rfl)
theorem dX3_least_175 : decode cX3_least 175 = .ok (.goto (-105), 3) := dk_167 255 151 (dk_at dksX3_least_7 11 rfl rfl)
theorem dX3_least_178 : decode cX3_least 178 = .ok (.iinc 8 1, 3) := dk_132 8 1 (dk_at dksX3_least_7 14 rfl rfl)
theorem dX3_least_181 : decode cX3_least 181 = .ok (.goto (-145), 3) := dk_167 255 111 (dk_at dksX3_least_7 17 rfl rfl)
theorem dX3_least_184 : decode cX3_least 184 = .ok (.iload 4, 2) := dk_21 4 (dk_at dksX3_least_7 20 rfl rfl)
theorem dX3_least_186 : decode cX3_least 186 = .ok (.ireturn, 1) := dk_172 (dk_at dksX3_least_7 22 rfl rfl)
abbrev cX3_placeOf : ByteArray := prog_13_method_96_code
def yX3_placeOf : MethodName := ⟨RX3, "placeOf", "(I)I"⟩
def dkwX3_placeOf_0 : List UInt8 := [3, 61, 42, 180, 0, 36, 28, 46, 27, 159, 0, 9, 132, 2, 1, 167, 255, 243, 28, 172]
abbrev dktX3_placeOf_0 : List UInt8 := dkwX3_placeOf_0 ++ []
theorem dksX3_placeOf_0 : cX3_placeOf.data.toList.drop 0 = dktX3_placeOf_0 := by decide +kernel
theorem dX3_placeOf_0 : decode cX3_placeOf 0 = .ok (.iconst 0, 1) := dk_3 (dk_at dksX3_placeOf_0 0 rfl rfl)
theorem dX3_placeOf_1 : decode cX3_placeOf 1 = .ok (.istore_n 2, 1) := dk_61 (dk_at dksX3_placeOf_0 1 rfl rfl)
theorem dX3_placeOf_2 : decode cX3_placeOf 2 = .ok (.aload_n 0, 1) := dk_42 (dk_at dksX3_placeOf_0 2 rfl rfl)
theorem dX3_placeOf_3 : decode cX3_placeOf 3 = .ok (.getfield 36, 3) := dk_180 0 36 (dk_at dksX3_placeOf_0 3 rfl rfl)
theorem dX3_placeOf_6 : decode cX3_placeOf 6 = .ok (.iload_n 2, 1) := dk_28 (dk_at dksX3_placeOf_0 6 rfl rfl)
theorem dX3_placeOf_7 : decode cX3_placeOf 7 = .ok (.iaload, 1) := dk_46 (dk_at dksX3_placeOf_0 7 rfl rfl)
theorem dX3_placeOf_8 : decode cX3_placeOf 8 = .ok (.iload_n 1, 1) := dk_27 (dk_at dksX3_placeOf_0 8 rfl rfl)
theorem dX3_placeOf_9 : decode cX3_placeOf 9 = .ok (.if_icmp .eq 9, 3) := dk_159 0 9 (dk_at dksX3_placeOf_0 9 rfl rfl)
theorem dX3_placeOf_12 : decode cX3_placeOf 12 = .ok (.iinc 2 1, 3) := dk_132 2 1 (dk_at dksX3_placeOf_0 12 rfl rfl)
theorem dX3_placeOf_15 : decode cX3_placeOf 15 = .ok (.goto (-13), 3) := dk_167 255 243 (dk_at dksX3_placeOf_0 15 rfl rfl)
theorem dX3_placeOf_18 : decode cX3_placeOf 18 = .ok (.iload_n 2, 1) := dk_28 (dk_at dksX3_placeOf_0 18 rfl rfl)
theorem dX3_placeOf_19 : decode cX3_placeOf 19 = .ok (.ireturn, 1) := dk_172 (dk_at dksX3_placeOf_0 19 rfl rfl)
abbrev cX3_isLess : ByteArray := prog_13_method_94_code
def yX3_isLess : MethodName := ⟨RX3, "isLess", "(II)Z"⟩
def dkwX3_isLess_0 : List UInt8 := [26, 27, 130, 61, 26, 28, 126, 28, 116, 126, 153, 0, 7, 4, 167, 0, 4, 3, 172]
abbrev dktX3_isLess_0 : List UInt8 := dkwX3_isLess_0 ++ []
theorem dksX3_isLess_0 : cX3_isLess.data.toList.drop 0 = dktX3_isLess_0 := by decide +kernel
theorem dX3_isLess_0 : decode cX3_isLess 0 = .ok (.iload_n 0, 1) := dk_26 (dk_at dksX3_isLess_0 0 rfl rfl)
theorem dX3_isLess_1 : decode cX3_isLess 1 = .ok (.iload_n 1, 1) := dk_27 (dk_at dksX3_isLess_0 1 rfl rfl)
theorem dX3_isLess_2 : decode cX3_isLess 2 = .ok (.ixor, 1) := dk_130 (dk_at dksX3_isLess_0 2 rfl rfl)
theorem dX3_isLess_3 : decode cX3_isLess 3 = .ok (.istore_n 2, 1) := dk_61 (dk_at dksX3_isLess_0 3 rfl rfl)
theorem dX3_isLess_4 : decode cX3_isLess 4 = .ok (.iload_n 0, 1) := dk_26 (dk_at dksX3_isLess_0 4 rfl rfl)
theorem dX3_isLess_5 : decode cX3_isLess 5 = .ok (.iload_n 2, 1) := dk_28 (dk_at dksX3_isLess_0 5 rfl rfl)
theorem dX3_isLess_6 : decode cX3_isLess 6 = .ok (.iand, 1) := dk_126 (dk_at dksX3_isLess_0 6 rfl rfl)
theorem dX3_isLess_7 : decode cX3_isLess 7 = .ok (.iload_n 2, 1) := dk_28 (dk_at dksX3_isLess_0 7 rfl rfl)
theorem dX3_isLess_8 : decode cX3_isLess 8 = .ok (.ineg, 1) := dk_116 (dk_at dksX3_isLess_0 8 rfl rfl)
theorem dX3_isLess_9 : decode cX3_isLess 9 = .ok (.iand, 1) := dk_126 (dk_at dksX3_isLess_0 9 rfl rfl)
theorem dX3_isLess_10 : decode cX3_isLess 10 = .ok (.ifCond .eq 7, 3) := dk_153 0 7 (dk_at dksX3_isLess_0 10 rfl rfl)
theorem dX3_isLess_13 : decode cX3_isLess 13 = .ok (.iconst 1, 1) := dk_4 (dk_at dksX3_isLess_0 13 rfl rfl)
theorem dX3_isLess_14 : decode cX3_isLess 14 = .ok (.goto 4, 3) := dk_167 0 4 (dk_at dksX3_isLess_0 14 rfl rfl)
theorem dX3_isLess_17 : decode cX3_isLess 17 = .ok (.iconst 0, 1) := dk_3 (dk_at dksX3_isLess_0 17 rfl rfl)
theorem dX3_isLess_18 : decode cX3_isLess 18 = .ok (.ireturn, 1) := dk_172 (dk_at dksX3_isLess_0 18 rfl rfl)
abbrev cX3_isFalseWith : ByteArray := prog_13_method_92_code
def yX3_isFalseWith : MethodName := ⟨RX3, "isFalseWith", "(III)Z"⟩
def dkwX3_isFalseWith_3 : List UInt8 := [42, 180, 0, 81, 28, 46, 154, 0, 7, 4, 167, 0, 4, 3, 172]
abbrev dktX3_isFalseWith_3 : List UInt8 := dkwX3_isFalseWith_3 ++ []
def dkwX3_isFalseWith_2 : List UInt8 := [4, 96, 181, 0, 154, 132, 4, 1, 167, 255, 208, 42, 42, 182, 0, 167, 181, 0, 157, 42, 27, 182, 0, 171]
abbrev dktX3_isFalseWith_2 : List UInt8 := dkwX3_isFalseWith_2 ++ dktX3_isFalseWith_3
def dkwX3_isFalseWith_1 : List UInt8 := [160, 0, 29, 42, 180, 0, 75, 42, 180, 0, 154, 42, 180, 0, 36, 21, 4, 46, 79, 42, 89, 180, 0, 154]
abbrev dktX3_isFalseWith_1 : List UInt8 := dkwX3_isFalseWith_1 ++ dktX3_isFalseWith_2
def dkwX3_isFalseWith_0 : List UInt8 := [42, 3, 181, 0, 154, 3, 54, 4, 21, 4, 42, 180, 0, 91, 162, 0, 45, 29, 21, 4, 122, 4, 126, 4]
abbrev dktX3_isFalseWith_0 : List UInt8 := dkwX3_isFalseWith_0 ++ dktX3_isFalseWith_1
theorem dksX3_isFalseWith_0 : cX3_isFalseWith.data.toList.drop 0 = dktX3_isFalseWith_0 := by decide +kernel
theorem dksX3_isFalseWith_1 : cX3_isFalseWith.data.toList.drop 24 = dktX3_isFalseWith_1 := dk_seg dksX3_isFalseWith_0 24 rfl rfl
theorem dksX3_isFalseWith_2 : cX3_isFalseWith.data.toList.drop 48 = dktX3_isFalseWith_2 := dk_seg dksX3_isFalseWith_1 24 rfl rfl
theorem dksX3_isFalseWith_3 : cX3_isFalseWith.data.toList.drop 72 = dktX3_isFalseWith_3 := dk_seg dksX3_isFalseWith_2 24 rfl rfl
theorem dX3_isFalseWith_0 : decode cX3_isFalseWith 0 = .ok (.aload_n 0, 1) := dk_42 (dk_at dksX3_isFalseWith_0 0 rfl rfl)
theorem dX3_isFalseWith_1 : decode cX3_isFalseWith 1 = .ok (.iconst 0, 1) := dk_3 (dk_at dksX3_isFalseWith_0 1 rfl rfl)
theorem dX3_isFalseWith_2 : decode cX3_isFalseWith 2 = .ok (.putfield 154, 3) := dk_181 0 154 (dk_at dksX3_isFalseWith_0 2 rfl rfl)
theorem dX3_isFalseWith_5 : decode cX3_isFalseWith 5 = .ok (.iconst 0, 1) := dk_3 (dk_at dksX3_isFalseWith_0 5 rfl rfl)
theorem dX3_isFalseWith_6 : decode cX3_isFalseWith 6 = .ok (.istore 4, 2) := dk_54 4 (dk_at dksX3_isFalseWith_0 6 rfl rfl)
theorem dX3_isFalseWith_8 : decode cX3_isFalseWith 8 = .ok (.iload 4, 2) := dk_21 4 (dk_at dksX3_isFalseWith_0 8 rfl rfl)
theorem dX3_isFalseWith_10 : decode cX3_isFalseWith 10 = .ok (.aload_n 0, 1) := dk_42 (dk_at dksX3_isFalseWith_0 10 rfl rfl)
theorem dX3_isFalseWith_11 : decode cX3_isFalseWith 11 = .ok (.getfield 91, 3) := dk_180 0 91 (dk_at dksX3_isFalseWith_0 11 rfl rfl)
theorem dX3_isFalseWith_14 : decode cX3_isFalseWith 14 = .ok (.if_icmp .ge 45, 3) := dk_162 0 45 (dk_at dksX3_isFalseWith_0 14 rfl rfl)
theorem dX3_isFalseWith_17 : decode cX3_isFalseWith 17 = .ok (.iload_n 3, 1) := dk_29 (dk_at dksX3_isFalseWith_0 17 rfl rfl)
theorem dX3_isFalseWith_18 : decode cX3_isFalseWith 18 = .ok (.iload 4, 2) := dk_21 4 (dk_at dksX3_isFalseWith_0 18 rfl rfl)
theorem dX3_isFalseWith_20 : decode cX3_isFalseWith 20 = .ok (.ishr, 1) := dk_122 (dk_at dksX3_isFalseWith_0 20 rfl rfl)
theorem dX3_isFalseWith_21 : decode cX3_isFalseWith 21 = .ok (.iconst 1, 1) := dk_4 (dk_at dksX3_isFalseWith_0 21 rfl rfl)
theorem dX3_isFalseWith_22 : decode cX3_isFalseWith 22 = .ok (.iand, 1) := dk_126 (dk_at dksX3_isFalseWith_0 22 rfl rfl)
theorem dX3_isFalseWith_23 : decode cX3_isFalseWith 23 = .ok (.iconst 1, 1) := dk_4 (dk_at dksX3_isFalseWith_0 23 rfl rfl)
theorem dX3_isFalseWith_24 : decode cX3_isFalseWith 24 = .ok (.if_icmp .ne 29, 3) := dk_160 0 29 (dk_at dksX3_isFalseWith_1 0 rfl rfl)
theorem dX3_isFalseWith_27 : decode cX3_isFalseWith 27 = .ok (.aload_n 0, 1) := dk_42 (dk_at dksX3_isFalseWith_1 3 rfl rfl)
theorem dX3_isFalseWith_28 : decode cX3_isFalseWith 28 = .ok (.getfield 75, 3) := dk_180 0 75 (dk_at dksX3_isFalseWith_1 4 rfl rfl)
theorem dX3_isFalseWith_31 : decode cX3_isFalseWith 31 = .ok (.aload_n 0, 1) := dk_42 (dk_at dksX3_isFalseWith_1 7 rfl rfl)
theorem dX3_isFalseWith_32 : decode cX3_isFalseWith 32 = .ok (.getfield 154, 3) := dk_180 0 154 (dk_at dksX3_isFalseWith_1 8 rfl rfl)
theorem dX3_isFalseWith_35 : decode cX3_isFalseWith 35 = .ok (.aload_n 0, 1) := dk_42 (dk_at dksX3_isFalseWith_1 11 rfl rfl)
theorem dX3_isFalseWith_36 : decode cX3_isFalseWith 36 = .ok (.getfield 36, 3) := dk_180 0 36 (dk_at dksX3_isFalseWith_1 12 rfl rfl)
theorem dX3_isFalseWith_39 : decode cX3_isFalseWith 39 = .ok (.iload 4, 2) := dk_21 4 (dk_at dksX3_isFalseWith_1 15 rfl rfl)
theorem dX3_isFalseWith_41 : decode cX3_isFalseWith 41 = .ok (.iaload, 1) := dk_46 (dk_at dksX3_isFalseWith_1 17 rfl rfl)
theorem dX3_isFalseWith_42 : decode cX3_isFalseWith 42 = .ok (.iastore, 1) := dk_79 (dk_at dksX3_isFalseWith_1 18 rfl rfl)
theorem dX3_isFalseWith_43 : decode cX3_isFalseWith 43 = .ok (.aload_n 0, 1) := dk_42 (dk_at dksX3_isFalseWith_1 19 rfl rfl)
theorem dX3_isFalseWith_44 : decode cX3_isFalseWith 44 = .ok (.dup, 1) := dk_89 (dk_at dksX3_isFalseWith_1 20 rfl rfl)
theorem dX3_isFalseWith_45 : decode cX3_isFalseWith 45 = .ok (.getfield 154, 3) := dk_180 0 154 (dk_at dksX3_isFalseWith_1 21 rfl rfl)
theorem dX3_isFalseWith_48 : decode cX3_isFalseWith 48 = .ok (.iconst 1, 1) := dk_4 (dk_at dksX3_isFalseWith_2 0 rfl rfl)
theorem dX3_isFalseWith_49 : decode cX3_isFalseWith 49 = .ok (.iadd, 1) := dk_96 (dk_at dksX3_isFalseWith_2 1 rfl rfl)
theorem dX3_isFalseWith_50 : decode cX3_isFalseWith 50 = .ok (.putfield 154, 3) := dk_181 0 154 (dk_at dksX3_isFalseWith_2 2 rfl rfl)
theorem dX3_isFalseWith_53 : decode cX3_isFalseWith 53 = .ok (.iinc 4 1, 3) := dk_132 4 1 (dk_at dksX3_isFalseWith_2 5 rfl rfl)
theorem dX3_isFalseWith_56 : decode cX3_isFalseWith 56 = .ok (.goto (-48), 3) := dk_167 255 208 (dk_at dksX3_isFalseWith_2 8 rfl rfl)
theorem dX3_isFalseWith_59 : decode cX3_isFalseWith 59 = .ok (.aload_n 0, 1) := dk_42 (dk_at dksX3_isFalseWith_2 11 rfl rfl)
theorem dX3_isFalseWith_60 : decode cX3_isFalseWith 60 = .ok (.aload_n 0, 1) := dk_42 (dk_at dksX3_isFalseWith_2 12 rfl rfl)
theorem dX3_isFalseWith_61 : decode cX3_isFalseWith 61 = .ok (.invokevirtual 167, 3) := dk_182 0 167 (dk_at dksX3_isFalseWith_2 13 rfl rfl)
theorem dX3_isFalseWith_64 : decode cX3_isFalseWith 64 = .ok (.putfield 157, 3) := dk_181 0 157 (dk_at dksX3_isFalseWith_2 16 rfl rfl)
theorem dX3_isFalseWith_67 : decode cX3_isFalseWith 67 = .ok (.aload_n 0, 1) := dk_42 (dk_at dksX3_isFalseWith_2 19 rfl rfl)
theorem dX3_isFalseWith_68 : decode cX3_isFalseWith 68 = .ok (.iload_n 1, 1) := dk_27 (dk_at dksX3_isFalseWith_2 20 rfl rfl)
theorem dX3_isFalseWith_69 : decode cX3_isFalseWith 69 = .ok (.invokevirtual 171, 3) := dk_182 0 171 (dk_at dksX3_isFalseWith_2 21 rfl rfl)
theorem dX3_isFalseWith_72 : decode cX3_isFalseWith 72 = .ok (.aload_n 0, 1) := dk_42 (dk_at dksX3_isFalseWith_3 0 rfl rfl)
theorem dX3_isFalseWith_73 : decode cX3_isFalseWith 73 = .ok (.getfield 81, 3) := dk_180 0 81 (dk_at dksX3_isFalseWith_3 1 rfl rfl)
theorem dX3_isFalseWith_76 : decode cX3_isFalseWith 76 = .ok (.iload_n 2, 1) := dk_28 (dk_at dksX3_isFalseWith_3 4 rfl rfl)
theorem dX3_isFalseWith_77 : decode cX3_isFalseWith 77 = .ok (.iaload, 1) := dk_46 (dk_at dksX3_isFalseWith_3 5 rfl rfl)
theorem dX3_isFalseWith_78 : decode cX3_isFalseWith 78 = .ok (.ifCond .ne 7, 3) := dk_154 0 7 (dk_at dksX3_isFalseWith_3 6 rfl rfl)
theorem dX3_isFalseWith_81 : decode cX3_isFalseWith 81 = .ok (.iconst 1, 1) := dk_4 (dk_at dksX3_isFalseWith_3 9 rfl rfl)
theorem dX3_isFalseWith_82 : decode cX3_isFalseWith 82 = .ok (.goto 4, 3) := dk_167 0 4 (dk_at dksX3_isFalseWith_3 10 rfl rfl)
theorem dX3_isFalseWith_85 : decode cX3_isFalseWith 85 = .ok (.iconst 0, 1) := dk_3 (dk_at dksX3_isFalseWith_3 13 rfl rfl)
theorem dX3_isFalseWith_86 : decode cX3_isFalseWith 86 = .ok (.ireturn, 1) := dk_172 (dk_at dksX3_isFalseWith_3 14 rfl rfl)
abbrev cX3_nextSet : ByteArray := prog_13_method_95_code
def yX3_nextSet : MethodName := ⟨RX3, "nextSet", "(I)I"⟩
def dkwX3_nextSet_0 : List UInt8 := [26, 26, 116, 126, 60, 26, 27, 96, 61, 28, 26, 130, 27, 108, 5, 122, 28, 128, 172]
abbrev dktX3_nextSet_0 : List UInt8 := dkwX3_nextSet_0 ++ []
theorem dksX3_nextSet_0 : cX3_nextSet.data.toList.drop 0 = dktX3_nextSet_0 := by decide +kernel
theorem dX3_nextSet_0 : decode cX3_nextSet 0 = .ok (.iload_n 0, 1) := dk_26 (dk_at dksX3_nextSet_0 0 rfl rfl)
theorem dX3_nextSet_1 : decode cX3_nextSet 1 = .ok (.iload_n 0, 1) := dk_26 (dk_at dksX3_nextSet_0 1 rfl rfl)
theorem dX3_nextSet_2 : decode cX3_nextSet 2 = .ok (.ineg, 1) := dk_116 (dk_at dksX3_nextSet_0 2 rfl rfl)
theorem dX3_nextSet_3 : decode cX3_nextSet 3 = .ok (.iand, 1) := dk_126 (dk_at dksX3_nextSet_0 3 rfl rfl)
theorem dX3_nextSet_4 : decode cX3_nextSet 4 = .ok (.istore_n 1, 1) := dk_60 (dk_at dksX3_nextSet_0 4 rfl rfl)
theorem dX3_nextSet_5 : decode cX3_nextSet 5 = .ok (.iload_n 0, 1) := dk_26 (dk_at dksX3_nextSet_0 5 rfl rfl)
theorem dX3_nextSet_6 : decode cX3_nextSet 6 = .ok (.iload_n 1, 1) := dk_27 (dk_at dksX3_nextSet_0 6 rfl rfl)
theorem dX3_nextSet_7 : decode cX3_nextSet 7 = .ok (.iadd, 1) := dk_96 (dk_at dksX3_nextSet_0 7 rfl rfl)
theorem dX3_nextSet_8 : decode cX3_nextSet 8 = .ok (.istore_n 2, 1) := dk_61 (dk_at dksX3_nextSet_0 8 rfl rfl)
theorem dX3_nextSet_9 : decode cX3_nextSet 9 = .ok (.iload_n 2, 1) := dk_28 (dk_at dksX3_nextSet_0 9 rfl rfl)
theorem dX3_nextSet_10 : decode cX3_nextSet 10 = .ok (.iload_n 0, 1) := dk_26 (dk_at dksX3_nextSet_0 10 rfl rfl)
theorem dX3_nextSet_11 : decode cX3_nextSet 11 = .ok (.ixor, 1) := dk_130 (dk_at dksX3_nextSet_0 11 rfl rfl)
theorem dX3_nextSet_12 : decode cX3_nextSet 12 = .ok (.iload_n 1, 1) := dk_27 (dk_at dksX3_nextSet_0 12 rfl rfl)
theorem dX3_nextSet_13 : decode cX3_nextSet 13 = .ok (.idiv, 1) := dk_108 (dk_at dksX3_nextSet_0 13 rfl rfl)
theorem dX3_nextSet_14 : decode cX3_nextSet 14 = .ok (.iconst 2, 1) := dk_5 (dk_at dksX3_nextSet_0 14 rfl rfl)
theorem dX3_nextSet_15 : decode cX3_nextSet 15 = .ok (.ishr, 1) := dk_122 (dk_at dksX3_nextSet_0 15 rfl rfl)
theorem dX3_nextSet_16 : decode cX3_nextSet 16 = .ok (.iload_n 2, 1) := dk_28 (dk_at dksX3_nextSet_0 16 rfl rfl)
theorem dX3_nextSet_17 : decode cX3_nextSet 17 = .ok (.ior, 1) := dk_128 (dk_at dksX3_nextSet_0 17 rfl rfl)
theorem dX3_nextSet_18 : decode cX3_nextSet 18 = .ok (.ireturn, 1) := dk_172 (dk_at dksX3_nextSet_0 18 rfl rfl)
abbrev cX3_ones : ByteArray := prog_13_method_93_code
def yX3_ones : MethodName := ⟨RX3, "ones", "(I)I"⟩
def dkwX3_ones_1 : List UInt8 := [27, 172]
abbrev dktX3_ones_1 : List UInt8 := dkwX3_ones_1 ++ []
def dkwX3_ones_0 : List UInt8 := [3, 60, 3, 61, 28, 16, 16, 162, 0, 17, 27, 26, 28, 122, 4, 126, 96, 60, 132, 2, 1, 167, 255, 239]
abbrev dktX3_ones_0 : List UInt8 := dkwX3_ones_0 ++ dktX3_ones_1
theorem dksX3_ones_0 : cX3_ones.data.toList.drop 0 = dktX3_ones_0 := by decide +kernel
theorem dksX3_ones_1 : cX3_ones.data.toList.drop 24 = dktX3_ones_1 := dk_seg dksX3_ones_0 24 rfl rfl
theorem dX3_ones_0 : decode cX3_ones 0 = .ok (.iconst 0, 1) := dk_3 (dk_at dksX3_ones_0 0 rfl rfl)
theorem dX3_ones_1 : decode cX3_ones 1 = .ok (.istore_n 1, 1) := dk_60 (dk_at dksX3_ones_0 1 rfl rfl)
theorem dX3_ones_2 : decode cX3_ones 2 = .ok (.iconst 0, 1) := dk_3 (dk_at dksX3_ones_0 2 rfl rfl)
theorem dX3_ones_3 : decode cX3_ones 3 = .ok (.istore_n 2, 1) := dk_61 (dk_at dksX3_ones_0 3 rfl rfl)
theorem dX3_ones_4 : decode cX3_ones 4 = .ok (.iload_n 2, 1) := dk_28 (dk_at dksX3_ones_0 4 rfl rfl)
theorem dX3_ones_5 : decode cX3_ones 5 = .ok (.bipush 16, 2) := dk_16 16 (dk_at dksX3_ones_0 5 rfl rfl)
theorem dX3_ones_7 : decode cX3_ones 7 = .ok (.if_icmp .ge 17, 3) := dk_162 0 17 (dk_at dksX3_ones_0 7 rfl rfl)
theorem dX3_ones_10 : decode cX3_ones 10 = .ok (.iload_n 1, 1) := dk_27 (dk_at dksX3_ones_0 10 rfl rfl)
theorem dX3_ones_11 : decode cX3_ones 11 = .ok (.iload_n 0, 1) := dk_26 (dk_at dksX3_ones_0 11 rfl rfl)
theorem dX3_ones_12 : decode cX3_ones 12 = .ok (.iload_n 2, 1) := dk_28 (dk_at dksX3_ones_0 12 rfl rfl)
theorem dX3_ones_13 : decode cX3_ones 13 = .ok (.ishr, 1) := dk_122 (dk_at dksX3_ones_0 13 rfl rfl)
theorem dX3_ones_14 : decode cX3_ones 14 = .ok (.iconst 1, 1) := dk_4 (dk_at dksX3_ones_0 14 rfl rfl)
theorem dX3_ones_15 : decode cX3_ones 15 = .ok (.iand, 1) := dk_126 (dk_at dksX3_ones_0 15 rfl rfl)
theorem dX3_ones_16 : decode cX3_ones 16 = .ok (.iadd, 1) := dk_96 (dk_at dksX3_ones_0 16 rfl rfl)
theorem dX3_ones_17 : decode cX3_ones 17 = .ok (.istore_n 1, 1) := dk_60 (dk_at dksX3_ones_0 17 rfl rfl)
theorem dX3_ones_18 : decode cX3_ones 18 = .ok (.iinc 2 1, 3) := dk_132 2 1 (dk_at dksX3_ones_0 18 rfl rfl)
theorem dX3_ones_21 : decode cX3_ones 21 = .ok (.goto (-17), 3) := dk_167 255 239 (dk_at dksX3_ones_0 21 rfl rfl)
theorem dX3_ones_24 : decode cX3_ones 24 = .ok (.iload_n 1, 1) := dk_27 (dk_at dksX3_ones_1 0 rfl rfl)
theorem dX3_ones_25 : decode cX3_ones 25 = .ok (.ireturn, 1) := dk_172 (dk_at dksX3_ones_1 1 rfl rfl)
abbrev cX3_explainedBy : ByteArray := prog_13_method_101_code
def yX3_explainedBy : MethodName := ⟨RX3, "explainedBy", "(III)I"⟩
def dkwX3_explainedBy_0 : List UInt8 := [42, 27, 28, 29, 3, 182, 1, 65, 172]
abbrev dktX3_explainedBy_0 : List UInt8 := dkwX3_explainedBy_0 ++ []
theorem dksX3_explainedBy_0 : cX3_explainedBy.data.toList.drop 0 = dktX3_explainedBy_0 := by decide +kernel
theorem dX3_explainedBy_0 : decode cX3_explainedBy 0 = .ok (.aload_n 0, 1) := dk_42 (dk_at dksX3_explainedBy_0 0 rfl rfl)
theorem dX3_explainedBy_1 : decode cX3_explainedBy 1 = .ok (.iload_n 1, 1) := dk_27 (dk_at dksX3_explainedBy_0 1 rfl rfl)
theorem dX3_explainedBy_2 : decode cX3_explainedBy 2 = .ok (.iload_n 2, 1) := dk_28 (dk_at dksX3_explainedBy_0 2 rfl rfl)
theorem dX3_explainedBy_3 : decode cX3_explainedBy 3 = .ok (.iload_n 3, 1) := dk_29 (dk_at dksX3_explainedBy_0 3 rfl rfl)
theorem dX3_explainedBy_4 : decode cX3_explainedBy 4 = .ok (.iconst 0, 1) := dk_3 (dk_at dksX3_explainedBy_0 4 rfl rfl)
theorem dX3_explainedBy_5 : decode cX3_explainedBy 5 = .ok (.invokevirtual 321, 3) := dk_182 1 65 (dk_at dksX3_explainedBy_0 5 rfl rfl)
theorem dX3_explainedBy_8 : decode cX3_explainedBy 8 = .ok (.ireturn, 1) := dk_172 (dk_at dksX3_explainedBy_0 8 rfl rfl)
abbrev cX3_tellsOne : ByteArray := prog_13_method_99_code
def yX3_tellsOne : MethodName := ⟨RX3, "tellsOne", "(IIIZ)I"⟩
def dkwX3_tellsOne_4 : List UInt8 := [21, 7, 46, 172, 132, 6, 255, 132, 7, 1, 167, 255, 213, 2, 172]
abbrev dktX3_tellsOne_4 : List UInt8 := dkwX3_tellsOne_4 ++ []
def dkwX3_tellsOne_3 : List UInt8 := [155, 0, 36, 21, 5, 21, 7, 122, 4, 126, 4, 160, 0, 19, 21, 6, 154, 0, 11, 42, 180, 0, 36]
abbrev dktX3_tellsOne_3 : List UInt8 := dkwX3_tellsOne_3 ++ dktX3_tellsOne_4
def dkwX3_tellsOne_2 : List UInt8 := [28, 21, 4, 182, 1, 56, 54, 5, 29, 54, 6, 3, 54, 7, 21, 7, 42, 180, 0, 91, 162, 0, 40, 29]
abbrev dktX3_tellsOne_2 : List UInt8 := dkwX3_tellsOne_2 ++ dktX3_tellsOne_3
def dkwX3_tellsOne_1 : List UInt8 := [180, 0, 91, 16, 16, 163, 0, 7, 4, 167, 0, 4, 3, 4, 182, 0, 181, 154, 0, 5, 3, 172, 42, 27]
abbrev dktX3_tellsOne_1 : List UInt8 := dkwX3_tellsOne_1 ++ dktX3_tellsOne_2
def dkwX3_tellsOne_0 : List UInt8 := [42, 42, 27, 182, 0, 249, 153, 0, 15, 42, 28, 182, 0, 240, 153, 0, 7, 4, 167, 0, 4, 3, 42]
abbrev dktX3_tellsOne_0 : List UInt8 := dkwX3_tellsOne_0 ++ dktX3_tellsOne_1
theorem dksX3_tellsOne_0 : cX3_tellsOne.data.toList.drop 0 = dktX3_tellsOne_0 := by decide +kernel
theorem dksX3_tellsOne_1 : cX3_tellsOne.data.toList.drop 23 = dktX3_tellsOne_1 := dk_seg dksX3_tellsOne_0 23 rfl rfl
theorem dksX3_tellsOne_2 : cX3_tellsOne.data.toList.drop 47 = dktX3_tellsOne_2 := dk_seg dksX3_tellsOne_1 24 rfl rfl
theorem dksX3_tellsOne_3 : cX3_tellsOne.data.toList.drop 71 = dktX3_tellsOne_3 := dk_seg dksX3_tellsOne_2 24 rfl rfl
theorem dksX3_tellsOne_4 : cX3_tellsOne.data.toList.drop 94 = dktX3_tellsOne_4 := dk_seg dksX3_tellsOne_3 23 rfl rfl
theorem dX3_tellsOne_0 : decode cX3_tellsOne 0 = .ok (.aload_n 0, 1) := dk_42 (dk_at dksX3_tellsOne_0 0 rfl rfl)
theorem dX3_tellsOne_1 : decode cX3_tellsOne 1 = .ok (.aload_n 0, 1) := dk_42 (dk_at dksX3_tellsOne_0 1 rfl rfl)
theorem dX3_tellsOne_2 : decode cX3_tellsOne 2 = .ok (.iload_n 1, 1) := dk_27 (dk_at dksX3_tellsOne_0 2 rfl rfl)
theorem dX3_tellsOne_3 : decode cX3_tellsOne 3 = .ok (.invokevirtual 249, 3) := dk_182 0 249 (dk_at dksX3_tellsOne_0 3 rfl rfl)
theorem dX3_tellsOne_6 : decode cX3_tellsOne 6 = .ok (.ifCond .eq 15, 3) := dk_153 0 15 (dk_at dksX3_tellsOne_0 6 rfl rfl)
theorem dX3_tellsOne_9 : decode cX3_tellsOne 9 = .ok (.aload_n 0, 1) := dk_42 (dk_at dksX3_tellsOne_0 9 rfl rfl)
theorem dX3_tellsOne_10 : decode cX3_tellsOne 10 = .ok (.iload_n 2, 1) := dk_28 (dk_at dksX3_tellsOne_0 10 rfl rfl)
theorem dX3_tellsOne_11 : decode cX3_tellsOne 11 = .ok (.invokevirtual 240, 3) := dk_182 0 240 (dk_at dksX3_tellsOne_0 11 rfl rfl)
theorem dX3_tellsOne_14 : decode cX3_tellsOne 14 = .ok (.ifCond .eq 7, 3) := dk_153 0 7 (dk_at dksX3_tellsOne_0 14 rfl rfl)
theorem dX3_tellsOne_17 : decode cX3_tellsOne 17 = .ok (.iconst 1, 1) := dk_4 (dk_at dksX3_tellsOne_0 17 rfl rfl)
theorem dX3_tellsOne_18 : decode cX3_tellsOne 18 = .ok (.goto 4, 3) := dk_167 0 4 (dk_at dksX3_tellsOne_0 18 rfl rfl)
theorem dX3_tellsOne_21 : decode cX3_tellsOne 21 = .ok (.iconst 0, 1) := dk_3 (dk_at dksX3_tellsOne_0 21 rfl rfl)
theorem dX3_tellsOne_22 : decode cX3_tellsOne 22 = .ok (.aload_n 0, 1) := dk_42 (dk_at dksX3_tellsOne_0 22 rfl rfl)
theorem dX3_tellsOne_23 : decode cX3_tellsOne 23 = .ok (.getfield 91, 3) := dk_180 0 91 (dk_at dksX3_tellsOne_1 0 rfl rfl)
theorem dX3_tellsOne_26 : decode cX3_tellsOne 26 = .ok (.bipush 16, 2) := dk_16 16 (dk_at dksX3_tellsOne_1 3 rfl rfl)
theorem dX3_tellsOne_28 : decode cX3_tellsOne 28 = .ok (.if_icmp .gt 7, 3) := dk_163 0 7 (dk_at dksX3_tellsOne_1 5 rfl rfl)
theorem dX3_tellsOne_31 : decode cX3_tellsOne 31 = .ok (.iconst 1, 1) := dk_4 (dk_at dksX3_tellsOne_1 8 rfl rfl)
theorem dX3_tellsOne_32 : decode cX3_tellsOne 32 = .ok (.goto 4, 3) := dk_167 0 4 (dk_at dksX3_tellsOne_1 9 rfl rfl)
theorem dX3_tellsOne_35 : decode cX3_tellsOne 35 = .ok (.iconst 0, 1) := dk_3 (dk_at dksX3_tellsOne_1 12 rfl rfl)
theorem dX3_tellsOne_36 : decode cX3_tellsOne 36 = .ok (.iconst 1, 1) := dk_4 (dk_at dksX3_tellsOne_1 13 rfl rfl)
theorem dX3_tellsOne_37 : decode cX3_tellsOne 37 = .ok (.invokevirtual 181, 3) := dk_182 0 181 (dk_at dksX3_tellsOne_1 14 rfl rfl)
theorem dX3_tellsOne_40 : decode cX3_tellsOne 40 = .ok (.ifCond .ne 5, 3) := dk_154 0 5 (dk_at dksX3_tellsOne_1 17 rfl rfl)
theorem dX3_tellsOne_43 : decode cX3_tellsOne 43 = .ok (.iconst 0, 1) := dk_3 (dk_at dksX3_tellsOne_1 20 rfl rfl)
theorem dX3_tellsOne_44 : decode cX3_tellsOne 44 = .ok (.ireturn, 1) := dk_172 (dk_at dksX3_tellsOne_1 21 rfl rfl)
theorem dX3_tellsOne_45 : decode cX3_tellsOne 45 = .ok (.aload_n 0, 1) := dk_42 (dk_at dksX3_tellsOne_1 22 rfl rfl)
theorem dX3_tellsOne_46 : decode cX3_tellsOne 46 = .ok (.iload_n 1, 1) := dk_27 (dk_at dksX3_tellsOne_1 23 rfl rfl)
theorem dX3_tellsOne_47 : decode cX3_tellsOne 47 = .ok (.iload_n 2, 1) := dk_28 (dk_at dksX3_tellsOne_2 0 rfl rfl)
theorem dX3_tellsOne_48 : decode cX3_tellsOne 48 = .ok (.iload 4, 2) := dk_21 4 (dk_at dksX3_tellsOne_2 1 rfl rfl)
theorem dX3_tellsOne_50 : decode cX3_tellsOne 50 = .ok (.invokevirtual 312, 3) := dk_182 1 56 (dk_at dksX3_tellsOne_2 3 rfl rfl)
theorem dX3_tellsOne_53 : decode cX3_tellsOne 53 = .ok (.istore 5, 2) := dk_54 5 (dk_at dksX3_tellsOne_2 6 rfl rfl)
theorem dX3_tellsOne_55 : decode cX3_tellsOne 55 = .ok (.iload_n 3, 1) := dk_29 (dk_at dksX3_tellsOne_2 8 rfl rfl)
theorem dX3_tellsOne_56 : decode cX3_tellsOne 56 = .ok (.istore 6, 2) := dk_54 6 (dk_at dksX3_tellsOne_2 9 rfl rfl)
theorem dX3_tellsOne_58 : decode cX3_tellsOne 58 = .ok (.iconst 0, 1) := dk_3 (dk_at dksX3_tellsOne_2 11 rfl rfl)
theorem dX3_tellsOne_59 : decode cX3_tellsOne 59 = .ok (.istore 7, 2) := dk_54 7 (dk_at dksX3_tellsOne_2 12 rfl rfl)
theorem dX3_tellsOne_61 : decode cX3_tellsOne 61 = .ok (.iload 7, 2) := dk_21 7 (dk_at dksX3_tellsOne_2 14 rfl rfl)
theorem dX3_tellsOne_63 : decode cX3_tellsOne 63 = .ok (.aload_n 0, 1) := dk_42 (dk_at dksX3_tellsOne_2 16 rfl rfl)
theorem dX3_tellsOne_64 : decode cX3_tellsOne 64 = .ok (.getfield 91, 3) := dk_180 0 91 (dk_at dksX3_tellsOne_2 17 rfl rfl)
theorem dX3_tellsOne_67 : decode cX3_tellsOne 67 = .ok (.if_icmp .ge 40, 3) := dk_162 0 40 (dk_at dksX3_tellsOne_2 20 rfl rfl)
theorem dX3_tellsOne_70 : decode cX3_tellsOne 70 = .ok (.iload_n 3, 1) := dk_29 (dk_at dksX3_tellsOne_2 23 rfl rfl)
theorem dX3_tellsOne_71 : decode cX3_tellsOne 71 = .ok (.ifCond .lt 36, 3) := dk_155 0 36 (dk_at dksX3_tellsOne_3 0 rfl rfl)
theorem dX3_tellsOne_74 : decode cX3_tellsOne 74 = .ok (.iload 5, 2) := dk_21 5 (dk_at dksX3_tellsOne_3 3 rfl rfl)
theorem dX3_tellsOne_76 : decode cX3_tellsOne 76 = .ok (.iload 7, 2) := dk_21 7 (dk_at dksX3_tellsOne_3 5 rfl rfl)
theorem dX3_tellsOne_78 : decode cX3_tellsOne 78 = .ok (.ishr, 1) := dk_122 (dk_at dksX3_tellsOne_3 7 rfl rfl)
theorem dX3_tellsOne_79 : decode cX3_tellsOne 79 = .ok (.iconst 1, 1) := dk_4 (dk_at dksX3_tellsOne_3 8 rfl rfl)
theorem dX3_tellsOne_80 : decode cX3_tellsOne 80 = .ok (.iand, 1) := dk_126 (dk_at dksX3_tellsOne_3 9 rfl rfl)
theorem dX3_tellsOne_81 : decode cX3_tellsOne 81 = .ok (.iconst 1, 1) := dk_4 (dk_at dksX3_tellsOne_3 10 rfl rfl)
theorem dX3_tellsOne_82 : decode cX3_tellsOne 82 = .ok (.if_icmp .ne 19, 3) := dk_160 0 19 (dk_at dksX3_tellsOne_3 11 rfl rfl)
theorem dX3_tellsOne_85 : decode cX3_tellsOne 85 = .ok (.iload 6, 2) := dk_21 6 (dk_at dksX3_tellsOne_3 14 rfl rfl)
theorem dX3_tellsOne_87 : decode cX3_tellsOne 87 = .ok (.ifCond .ne 11, 3) := dk_154 0 11 (dk_at dksX3_tellsOne_3 16 rfl rfl)
theorem dX3_tellsOne_90 : decode cX3_tellsOne 90 = .ok (.aload_n 0, 1) := dk_42 (dk_at dksX3_tellsOne_3 19 rfl rfl)
theorem dX3_tellsOne_91 : decode cX3_tellsOne 91 = .ok (.getfield 36, 3) := dk_180 0 36 (dk_at dksX3_tellsOne_3 20 rfl rfl)
theorem dX3_tellsOne_94 : decode cX3_tellsOne 94 = .ok (.iload 7, 2) := dk_21 7 (dk_at dksX3_tellsOne_4 0 rfl rfl)
theorem dX3_tellsOne_96 : decode cX3_tellsOne 96 = .ok (.iaload, 1) := dk_46 (dk_at dksX3_tellsOne_4 2 rfl rfl)
theorem dX3_tellsOne_97 : decode cX3_tellsOne 97 = .ok (.ireturn, 1) := dk_172 (dk_at dksX3_tellsOne_4 3 rfl rfl)
theorem dX3_tellsOne_98 : decode cX3_tellsOne 98 = .ok (.iinc 6 (-1), 3) := dk_132 6 255 (dk_at dksX3_tellsOne_4 4 rfl rfl)
theorem dX3_tellsOne_101 : decode cX3_tellsOne 101 = .ok (.iinc 7 1, 3) := dk_132 7 1 (dk_at dksX3_tellsOne_4 7 rfl rfl)
theorem dX3_tellsOne_104 : decode cX3_tellsOne 104 = .ok (.goto (-43), 3) := dk_167 255 213 (dk_at dksX3_tellsOne_4 10 rfl rfl)
theorem dX3_tellsOne_107 : decode cX3_tellsOne 107 = .ok (.iconst (-1), 1) := dk_2 (dk_at dksX3_tellsOne_4 13 rfl rfl)
theorem dX3_tellsOne_108 : decode cX3_tellsOne 108 = .ok (.ireturn, 1) := dk_172 (dk_at dksX3_tellsOne_4 14 rfl rfl)
abbrev cX3_mend : ByteArray := prog_13_method_102_code
def yX3_mend : MethodName := ⟨RX3, "mend", "(II)I"⟩
def dkwX3_mend_0 : List UInt8 := [42, 27, 28, 4, 182, 1, 62, 172]
abbrev dktX3_mend_0 : List UInt8 := dkwX3_mend_0 ++ []
theorem dksX3_mend_0 : cX3_mend.data.toList.drop 0 = dktX3_mend_0 := by decide +kernel
theorem dX3_mend_0 : decode cX3_mend 0 = .ok (.aload_n 0, 1) := dk_42 (dk_at dksX3_mend_0 0 rfl rfl)
theorem dX3_mend_1 : decode cX3_mend 1 = .ok (.iload_n 1, 1) := dk_27 (dk_at dksX3_mend_0 1 rfl rfl)
theorem dX3_mend_2 : decode cX3_mend 2 = .ok (.iload_n 2, 1) := dk_28 (dk_at dksX3_mend_0 2 rfl rfl)
theorem dX3_mend_3 : decode cX3_mend 3 = .ok (.iconst 1, 1) := dk_4 (dk_at dksX3_mend_0 3 rfl rfl)
theorem dX3_mend_4 : decode cX3_mend 4 = .ok (.invokevirtual 318, 3) := dk_182 1 62 (dk_at dksX3_mend_0 4 rfl rfl)
theorem dX3_mend_7 : decode cX3_mend 7 = .ok (.ireturn, 1) := dk_172 (dk_at dksX3_mend_0 7 rfl rfl)
abbrev cX3_mendedBy : ByteArray := prog_13_method_103_code
def yX3_mendedBy : MethodName := ⟨RX3, "mendedBy", "(III)I"⟩
def dkwX3_mendedBy_0 : List UInt8 := [42, 27, 28, 29, 4, 182, 1, 65, 172]
abbrev dktX3_mendedBy_0 : List UInt8 := dkwX3_mendedBy_0 ++ []
theorem dksX3_mendedBy_0 : cX3_mendedBy.data.toList.drop 0 = dktX3_mendedBy_0 := by decide +kernel
theorem dX3_mendedBy_0 : decode cX3_mendedBy 0 = .ok (.aload_n 0, 1) := dk_42 (dk_at dksX3_mendedBy_0 0 rfl rfl)
theorem dX3_mendedBy_1 : decode cX3_mendedBy 1 = .ok (.iload_n 1, 1) := dk_27 (dk_at dksX3_mendedBy_0 1 rfl rfl)
theorem dX3_mendedBy_2 : decode cX3_mendedBy 2 = .ok (.iload_n 2, 1) := dk_28 (dk_at dksX3_mendedBy_0 2 rfl rfl)
theorem dX3_mendedBy_3 : decode cX3_mendedBy 3 = .ok (.iload_n 3, 1) := dk_29 (dk_at dksX3_mendedBy_0 3 rfl rfl)
theorem dX3_mendedBy_4 : decode cX3_mendedBy 4 = .ok (.iconst 1, 1) := dk_4 (dk_at dksX3_mendedBy_0 4 rfl rfl)
theorem dX3_mendedBy_5 : decode cX3_mendedBy 5 = .ok (.invokevirtual 321, 3) := dk_182 1 65 (dk_at dksX3_mendedBy_0 5 rfl rfl)
theorem dX3_mendedBy_8 : decode cX3_mendedBy 8 = .ok (.ireturn, 1) := dk_172 (dk_at dksX3_mendedBy_0 8 rfl rfl)
theorem q82 : (Jvm.Cond.initialized "LogGrammarModel") ∈ lw_all := lw_g (lw_at lw_m1 10 rfl) rfl
theorem q218 : (Jvm.Cond.selects "LogGrammarModel" ({ cls := "java/lang/Object", name := "getClass", desc := "()Ljava/lang/Class;" } : Jvm.MethodName) ({ cls := "java/lang/Object", name := "getClass", desc := "()Ljava/lang/Class;" } : Jvm.MethodName)) ∈ lw_all := lw_g (lw_at lw_m1 146 rfl) rfl
theorem q557 : (Jvm.Cond.selects "LogGrammarModel" ({ cls := "java/lang/Object", name := "equals", desc := "(Ljava/lang/Object;)Z" } : Jvm.MethodName) ({ cls := "java/lang/Object", name := "equals", desc := "(Ljava/lang/Object;)Z" } : Jvm.MethodName)) ∈ lw_all := lw_g (lw_at lw_m3 5 rfl) rfl
theorem q1632 : (Jvm.Cond.instantiable "LogGrammarModel" (35 : Nat)) ∈ lw_all := lw_g (lw_at lw_m7 120 rfl) rfl
theorem q1634 : (Jvm.Cond.instanceMethod ({ cls := "LogGrammarModel", name := "<init>", desc := "()V" } : Jvm.MethodName)) ∈ lw_all := lw_g (lw_at lw_m7 122 rfl) rfl
theorem q1635 : (Jvm.Cond.code ({ cls := "LogGrammarModel", name := "<init>", desc := "()V" } : Jvm.MethodName) prog_13_method_1_code (1 : Nat) (Option.none : Option Jvm.ClassFile.FieldType)) ∈ lw_all := lw_g (lw_at lw_m7 123 rfl) rfl
theorem q1636 : (Jvm.Cond.methodLink "LogGrammarModel" (1 : Nat) ({ cls := "java/lang/Object", name := "<init>", desc := "()V" } : Jvm.MethodName)) ∈ lw_all := lw_g (lw_at lw_m7 124 rfl) rfl
theorem q1637 : (Jvm.Cond.fieldLink "LogGrammarModel" (7 : Nat) "LogGrammarModel" "offset" "[I") ∈ lw_all := lw_g (lw_at lw_m7 125 rfl) rfl
theorem q1638 : (Jvm.Cond.fieldLink "LogGrammarModel" (13 : Nat) "LogGrammarModel" "patience" "I") ∈ lw_all := lw_g (lw_at lw_m7 126 rfl) rfl
theorem q1639 : (Jvm.Cond.fieldLink "LogGrammarModel" (97 : Nat) "LogGrammarModel" "closed" "Z") ∈ lw_all := lw_g (lw_at lw_m7 127 rfl) rfl
theorem q1640 : (Jvm.Cond.fieldLink "LogGrammarModel" (91 : Nat) "LogGrammarModel" "events" "I") ∈ lw_all := lw_g (lw_at lw_m7 128 rfl) rfl
theorem q1641 : (Jvm.Cond.fieldLink "LogGrammarModel" (206 : Nat) "LogGrammarModel" "dropped" "I") ∈ lw_all := lw_g (lw_at lw_m7 129 rfl) rfl
theorem q1642 : (Jvm.Cond.fieldLink "LogGrammarModel" (101 : Nat) "LogGrammarModel" "present" "I") ∈ lw_all := lw_g (lw_at lw_m7 130 rfl) rfl
theorem q1643 : (Jvm.Cond.fieldLink "LogGrammarModel" (17 : Nat) "LogGrammarModel" "node" "[I") ∈ lw_all := lw_g (lw_at lw_m7 131 rfl) rfl
theorem q1644 : (Jvm.Cond.fieldLink "LogGrammarModel" (20 : Nat) "LogGrammarModel" "time" "[I") ∈ lw_all := lw_g (lw_at lw_m7 132 rfl) rfl
theorem q1645 : (Jvm.Cond.fieldLink "LogGrammarModel" (23 : Nat) "LogGrammarModel" "kind" "[I") ∈ lw_all := lw_g (lw_at lw_m7 133 rfl) rfl
theorem q1646 : (Jvm.Cond.fieldLink "LogGrammarModel" (26 : Nat) "LogGrammarModel" "id" "[I") ∈ lw_all := lw_g (lw_at lw_m7 134 rfl) rfl
theorem q1647 : (Jvm.Cond.fieldLink "LogGrammarModel" (29 : Nat) "LogGrammarModel" "value" "[I") ∈ lw_all := lw_g (lw_at lw_m7 135 rfl) rfl
theorem q1648 : (Jvm.Cond.fieldLink "LogGrammarModel" (32 : Nat) "LogGrammarModel" "late" "[Z") ∈ lw_all := lw_g (lw_at lw_m7 136 rfl) rfl
theorem q1649 : (Jvm.Cond.fieldLink "LogGrammarModel" (36 : Nat) "LogGrammarModel" "log" "[I") ∈ lw_all := lw_g (lw_at lw_m7 137 rfl) rfl
theorem q1650 : (Jvm.Cond.fieldLink "LogGrammarModel" (216 : Nat) "LogGrammarModel" "parts" "I") ∈ lw_all := lw_g (lw_at lw_m7 138 rfl) rfl
theorem q1651 : (Jvm.Cond.fieldLink "LogGrammarModel" (39 : Nat) "LogGrammarModel" "sizes" "[I") ∈ lw_all := lw_g (lw_at lw_m7 139 rfl) rfl
theorem q1652 : (Jvm.Cond.fieldLink "LogGrammarModel" (209 : Nat) "LogGrammarModel" "put" "I") ∈ lw_all := lw_g (lw_at lw_m7 140 rfl) rfl
theorem q1653 : (Jvm.Cond.fieldLink "LogGrammarModel" (42 : Nat) "LogGrammarModel" "what" "[I") ∈ lw_all := lw_g (lw_at lw_m7 141 rfl) rfl
theorem q1654 : (Jvm.Cond.fieldLink "LogGrammarModel" (45 : Nat) "LogGrammarModel" "one" "[I") ∈ lw_all := lw_g (lw_at lw_m7 142 rfl) rfl
theorem q1655 : (Jvm.Cond.fieldLink "LogGrammarModel" (48 : Nat) "LogGrammarModel" "other" "[I") ∈ lw_all := lw_g (lw_at lw_m7 143 rfl) rfl
theorem q1656 : (Jvm.Cond.fieldLink "LogGrammarModel" (51 : Nat) "LogGrammarModel" "size" "[I") ∈ lw_all := lw_g (lw_at lw_m7 144 rfl) rfl
theorem q1657 : (Jvm.Cond.fieldLink "LogGrammarModel" (94 : Nat) "LogGrammarModel" "monitors" "I") ∈ lw_all := lw_g (lw_at lw_m7 145 rfl) rfl
theorem q1658 : (Jvm.Cond.fieldLink "LogGrammarModel" (54 : Nat) "LogGrammarModel" "sliced" "[Z") ∈ lw_all := lw_g (lw_at lw_m7 146 rfl) rfl
theorem q1659 : (Jvm.Cond.fieldLink "LogGrammarModel" (57 : Nat) "LogGrammarModel" "guard" "[Z") ∈ lw_all := lw_g (lw_at lw_m7 147 rfl) rfl
theorem q1660 : (Jvm.Cond.fieldLink "LogGrammarModel" (60 : Nat) "LogGrammarModel" "ends" "[I") ∈ lw_all := lw_g (lw_at lw_m7 148 rfl) rfl
theorem q1661 : (Jvm.Cond.fieldLink "LogGrammarModel" (63 : Nat) "LogGrammarModel" "taken" "[I") ∈ lw_all := lw_g (lw_at lw_m7 149 rfl) rfl
theorem q1662 : (Jvm.Cond.fieldLink "LogGrammarModel" (66 : Nat) "LogGrammarModel" "kept" "[I") ∈ lw_all := lw_g (lw_at lw_m7 150 rfl) rfl
theorem q1663 : (Jvm.Cond.fieldLink "LogGrammarModel" (69 : Nat) "LogGrammarModel" "since" "[I") ∈ lw_all := lw_g (lw_at lw_m7 151 rfl) rfl
theorem q1664 : (Jvm.Cond.fieldLink "LogGrammarModel" (117 : Nat) "LogGrammarModel" "many" "I") ∈ lw_all := lw_g (lw_at lw_m7 152 rfl) rfl
theorem q1665 : (Jvm.Cond.fieldLink "LogGrammarModel" (72 : Nat) "LogGrammarModel" "row" "[I") ∈ lw_all := lw_g (lw_at lw_m7 153 rfl) rfl
theorem q1666 : (Jvm.Cond.fieldLink "LogGrammarModel" (154 : Nat) "LogGrammarModel" "rows" "I") ∈ lw_all := lw_g (lw_at lw_m7 154 rfl) rfl
theorem q1667 : (Jvm.Cond.fieldLink "LogGrammarModel" (75 : Nat) "LogGrammarModel" "line" "[I") ∈ lw_all := lw_g (lw_at lw_m7 155 rfl) rfl
theorem q1668 : (Jvm.Cond.fieldLink "LogGrammarModel" (157 : Nat) "LogGrammarModel" "ids" "I") ∈ lw_all := lw_g (lw_at lw_m7 156 rfl) rfl
theorem q1669 : (Jvm.Cond.fieldLink "LogGrammarModel" (78 : Nat) "LogGrammarModel" "told" "[I") ∈ lw_all := lw_g (lw_at lw_m7 157 rfl) rfl
theorem q1670 : (Jvm.Cond.fieldLink "LogGrammarModel" (81 : Nat) "LogGrammarModel" "found" "[I") ∈ lw_all := lw_g (lw_at lw_m7 158 rfl) rfl
theorem q1671 : (Jvm.Cond.fieldLink "LogGrammarModel" (84 : Nat) "LogGrammarModel" "thrown" "I") ∈ lw_all := lw_g (lw_at lw_m7 159 rfl) rfl
theorem q1672 : (Jvm.Cond.laysFinal "LogGrammarModel" "LogGrammarModel" "offset" "[I") ∈ lw_all := lw_g (lw_at lw_m7 160 rfl) rfl
theorem q1673 : (Jvm.Cond.soleField "LogGrammarModel" "offset") ∈ lw_all := lw_g (lw_at lw_m7 161 rfl) rfl
theorem q1674 : (Jvm.Cond.lays "LogGrammarModel" "LogGrammarModel" "patience" "I") ∈ lw_all := lw_g (lw_at lw_m7 162 rfl) rfl
theorem q1675 : (Jvm.Cond.soleField "LogGrammarModel" "patience") ∈ lw_all := lw_g (lw_at lw_m7 163 rfl) rfl
theorem q1676 : (Jvm.Cond.lays "LogGrammarModel" "LogGrammarModel" "closed" "Z") ∈ lw_all := lw_g (lw_at lw_m7 164 rfl) rfl
theorem q1677 : (Jvm.Cond.soleField "LogGrammarModel" "closed") ∈ lw_all := lw_g (lw_at lw_m7 165 rfl) rfl
theorem q1678 : (Jvm.Cond.lays "LogGrammarModel" "LogGrammarModel" "events" "I") ∈ lw_all := lw_g (lw_at lw_m7 166 rfl) rfl
theorem q1679 : (Jvm.Cond.soleField "LogGrammarModel" "events") ∈ lw_all := lw_g (lw_at lw_m7 167 rfl) rfl
theorem q1680 : (Jvm.Cond.lays "LogGrammarModel" "LogGrammarModel" "dropped" "I") ∈ lw_all := lw_g (lw_at lw_m7 168 rfl) rfl
theorem q1681 : (Jvm.Cond.soleField "LogGrammarModel" "dropped") ∈ lw_all := lw_g (lw_at lw_m7 169 rfl) rfl
theorem q1682 : (Jvm.Cond.lays "LogGrammarModel" "LogGrammarModel" "present" "I") ∈ lw_all := lw_g (lw_at lw_m7 170 rfl) rfl
theorem q1683 : (Jvm.Cond.soleField "LogGrammarModel" "present") ∈ lw_all := lw_g (lw_at lw_m7 171 rfl) rfl
theorem q1684 : (Jvm.Cond.laysFinal "LogGrammarModel" "LogGrammarModel" "node" "[I") ∈ lw_all := lw_g (lw_at lw_m7 172 rfl) rfl
theorem q1685 : (Jvm.Cond.soleField "LogGrammarModel" "node") ∈ lw_all := lw_g (lw_at lw_m7 173 rfl) rfl
theorem q1686 : (Jvm.Cond.laysFinal "LogGrammarModel" "LogGrammarModel" "time" "[I") ∈ lw_all := lw_g (lw_at lw_m7 174 rfl) rfl
theorem q1687 : (Jvm.Cond.soleField "LogGrammarModel" "time") ∈ lw_all := lw_g (lw_at lw_m7 175 rfl) rfl
theorem q1688 : (Jvm.Cond.laysFinal "LogGrammarModel" "LogGrammarModel" "kind" "[I") ∈ lw_all := lw_g (lw_at lw_m7 176 rfl) rfl
theorem q1689 : (Jvm.Cond.soleField "LogGrammarModel" "kind") ∈ lw_all := lw_g (lw_at lw_m7 177 rfl) rfl
theorem q1690 : (Jvm.Cond.laysFinal "LogGrammarModel" "LogGrammarModel" "id" "[I") ∈ lw_all := lw_g (lw_at lw_m7 178 rfl) rfl
theorem q1691 : (Jvm.Cond.soleField "LogGrammarModel" "id") ∈ lw_all := lw_g (lw_at lw_m7 179 rfl) rfl
theorem q1692 : (Jvm.Cond.laysFinal "LogGrammarModel" "LogGrammarModel" "value" "[I") ∈ lw_all := lw_g (lw_at lw_m7 180 rfl) rfl
theorem q1693 : (Jvm.Cond.soleField "LogGrammarModel" "value") ∈ lw_all := lw_g (lw_at lw_m7 181 rfl) rfl
theorem q1694 : (Jvm.Cond.laysFinal "LogGrammarModel" "LogGrammarModel" "late" "[Z") ∈ lw_all := lw_g (lw_at lw_m7 182 rfl) rfl
theorem q1695 : (Jvm.Cond.soleField "LogGrammarModel" "late") ∈ lw_all := lw_g (lw_at lw_m7 183 rfl) rfl
theorem q1696 : (Jvm.Cond.laysFinal "LogGrammarModel" "LogGrammarModel" "log" "[I") ∈ lw_all := lw_g (lw_at lw_m7 184 rfl) rfl
theorem q1697 : (Jvm.Cond.soleField "LogGrammarModel" "log") ∈ lw_all := lw_g (lw_at lw_m7 185 rfl) rfl
theorem q1698 : (Jvm.Cond.lays "LogGrammarModel" "LogGrammarModel" "parts" "I") ∈ lw_all := lw_g (lw_at lw_m7 186 rfl) rfl
theorem q1699 : (Jvm.Cond.soleField "LogGrammarModel" "parts") ∈ lw_all := lw_g (lw_at lw_m7 187 rfl) rfl
theorem q1700 : (Jvm.Cond.laysFinal "LogGrammarModel" "LogGrammarModel" "sizes" "[I") ∈ lw_all := lw_g (lw_at lw_m7 188 rfl) rfl
theorem q1701 : (Jvm.Cond.soleField "LogGrammarModel" "sizes") ∈ lw_all := lw_g (lw_at lw_m7 189 rfl) rfl
theorem q1702 : (Jvm.Cond.lays "LogGrammarModel" "LogGrammarModel" "put" "I") ∈ lw_all := lw_g (lw_at lw_m7 190 rfl) rfl
theorem q1703 : (Jvm.Cond.soleField "LogGrammarModel" "put") ∈ lw_all := lw_g (lw_at lw_m7 191 rfl) rfl
theorem q1704 : (Jvm.Cond.laysFinal "LogGrammarModel" "LogGrammarModel" "what" "[I") ∈ lw_all := lw_g (lw_at lw_m7 192 rfl) rfl
theorem q1705 : (Jvm.Cond.soleField "LogGrammarModel" "what") ∈ lw_all := lw_g (lw_at lw_m7 193 rfl) rfl
theorem q1706 : (Jvm.Cond.laysFinal "LogGrammarModel" "LogGrammarModel" "one" "[I") ∈ lw_all := lw_g (lw_at lw_m7 194 rfl) rfl
theorem q1707 : (Jvm.Cond.soleField "LogGrammarModel" "one") ∈ lw_all := lw_g (lw_at lw_m7 195 rfl) rfl
theorem q1708 : (Jvm.Cond.laysFinal "LogGrammarModel" "LogGrammarModel" "other" "[I") ∈ lw_all := lw_g (lw_at lw_m7 196 rfl) rfl
theorem q1709 : (Jvm.Cond.soleField "LogGrammarModel" "other") ∈ lw_all := lw_g (lw_at lw_m7 197 rfl) rfl
theorem q1710 : (Jvm.Cond.laysFinal "LogGrammarModel" "LogGrammarModel" "size" "[I") ∈ lw_all := lw_g (lw_at lw_m7 198 rfl) rfl
theorem q1711 : (Jvm.Cond.soleField "LogGrammarModel" "size") ∈ lw_all := lw_g (lw_at lw_m7 199 rfl) rfl
theorem q1712 : (Jvm.Cond.lays "LogGrammarModel" "LogGrammarModel" "monitors" "I") ∈ lw_all := lw_g (lw_at lw_m7 200 rfl) rfl
theorem q1713 : (Jvm.Cond.soleField "LogGrammarModel" "monitors") ∈ lw_all := lw_g (lw_at lw_m7 201 rfl) rfl
theorem q1714 : (Jvm.Cond.laysFinal "LogGrammarModel" "LogGrammarModel" "sliced" "[Z") ∈ lw_all := lw_g (lw_at lw_m7 202 rfl) rfl
theorem q1715 : (Jvm.Cond.soleField "LogGrammarModel" "sliced") ∈ lw_all := lw_g (lw_at lw_m7 203 rfl) rfl
theorem q1716 : (Jvm.Cond.laysFinal "LogGrammarModel" "LogGrammarModel" "guard" "[Z") ∈ lw_all := lw_g (lw_at lw_m7 204 rfl) rfl
theorem q1717 : (Jvm.Cond.soleField "LogGrammarModel" "guard") ∈ lw_all := lw_g (lw_at lw_m7 205 rfl) rfl
theorem q1718 : (Jvm.Cond.laysFinal "LogGrammarModel" "LogGrammarModel" "ends" "[I") ∈ lw_all := lw_g (lw_at lw_m7 206 rfl) rfl
theorem q1719 : (Jvm.Cond.soleField "LogGrammarModel" "ends") ∈ lw_all := lw_g (lw_at lw_m7 207 rfl) rfl
theorem q1720 : (Jvm.Cond.laysFinal "LogGrammarModel" "LogGrammarModel" "taken" "[I") ∈ lw_all := lw_g (lw_at lw_m7 208 rfl) rfl
theorem q1721 : (Jvm.Cond.soleField "LogGrammarModel" "taken") ∈ lw_all := lw_g (lw_at lw_m7 209 rfl) rfl
theorem q1722 : (Jvm.Cond.laysFinal "LogGrammarModel" "LogGrammarModel" "kept" "[I") ∈ lw_all := lw_g (lw_at lw_m7 210 rfl) rfl
theorem q1723 : (Jvm.Cond.soleField "LogGrammarModel" "kept") ∈ lw_all := lw_g (lw_at lw_m7 211 rfl) rfl
theorem q1724 : (Jvm.Cond.laysFinal "LogGrammarModel" "LogGrammarModel" "since" "[I") ∈ lw_all := lw_g (lw_at lw_m7 212 rfl) rfl
theorem q1725 : (Jvm.Cond.soleField "LogGrammarModel" "since") ∈ lw_all := lw_g (lw_at lw_m7 213 rfl) rfl
theorem q1726 : (Jvm.Cond.lays "LogGrammarModel" "LogGrammarModel" "many" "I") ∈ lw_all := lw_g (lw_at lw_m7 214 rfl) rfl
theorem q1727 : (Jvm.Cond.soleField "LogGrammarModel" "many") ∈ lw_all := lw_g (lw_at lw_m7 215 rfl) rfl
theorem q1728 : (Jvm.Cond.laysFinal "LogGrammarModel" "LogGrammarModel" "row" "[I") ∈ lw_all := lw_g (lw_at lw_m7 216 rfl) rfl
theorem q1729 : (Jvm.Cond.soleField "LogGrammarModel" "row") ∈ lw_all := lw_g (lw_at lw_m7 217 rfl) rfl
theorem q1730 : (Jvm.Cond.lays "LogGrammarModel" "LogGrammarModel" "rows" "I") ∈ lw_all := lw_g (lw_at lw_m7 218 rfl) rfl
theorem q1731 : (Jvm.Cond.soleField "LogGrammarModel" "rows") ∈ lw_all := lw_g (lw_at lw_m7 219 rfl) rfl
theorem q1732 : (Jvm.Cond.laysFinal "LogGrammarModel" "LogGrammarModel" "line" "[I") ∈ lw_all := lw_g (lw_at lw_m7 220 rfl) rfl
theorem q1733 : (Jvm.Cond.soleField "LogGrammarModel" "line") ∈ lw_all := lw_g (lw_at lw_m7 221 rfl) rfl
theorem q1734 : (Jvm.Cond.lays "LogGrammarModel" "LogGrammarModel" "ids" "I") ∈ lw_all := lw_g (lw_at lw_m7 222 rfl) rfl
theorem q1735 : (Jvm.Cond.soleField "LogGrammarModel" "ids") ∈ lw_all := lw_g (lw_at lw_m7 223 rfl) rfl
theorem q1736 : (Jvm.Cond.laysFinal "LogGrammarModel" "LogGrammarModel" "told" "[I") ∈ lw_all := lw_g (lw_at lw_m7 224 rfl) rfl
theorem q1737 : (Jvm.Cond.soleField "LogGrammarModel" "told") ∈ lw_all := lw_g (lw_at lw_m7 225 rfl) rfl
theorem q1738 : (Jvm.Cond.laysFinal "LogGrammarModel" "LogGrammarModel" "found" "[I") ∈ lw_all := lw_g (lw_at lw_m7 226 rfl) rfl
theorem q1739 : (Jvm.Cond.soleField "LogGrammarModel" "found") ∈ lw_all := lw_g (lw_at lw_m7 227 rfl) rfl
theorem q1740 : (Jvm.Cond.lays "LogGrammarModel" "LogGrammarModel" "thrown" "I") ∈ lw_all := lw_g (lw_at lw_m7 228 rfl) rfl
theorem q1741 : (Jvm.Cond.soleField "LogGrammarModel" "thrown") ∈ lw_all := lw_g (lw_at lw_m7 229 rfl) rfl
theorem q1742 : (Jvm.Cond.superclass "LogGrammarModel" "java/lang/Object") ∈ lw_all := lw_g (lw_at lw_m7 230 rfl) rfl
theorem q1745 : (Jvm.Cond.instanceMethod ({ cls := "LogGrammarModel", name := "thrown", desc := "()I" } : Jvm.MethodName)) ∈ lw_all := lw_g (lw_at lw_m7 233 rfl) rfl
theorem q1746 : (Jvm.Cond.selects "LogGrammarModel" ({ cls := "LogGrammarModel", name := "thrown", desc := "()I" } : Jvm.MethodName) ({ cls := "LogGrammarModel", name := "thrown", desc := "()I" } : Jvm.MethodName)) ∈ lw_all := lw_g (lw_at lw_m7 234 rfl) rfl
theorem q1747 : (Jvm.Cond.code ({ cls := "LogGrammarModel", name := "thrown", desc := "()I" } : Jvm.MethodName) prog_13_method_2_code (1 : Nat) (Option.some Jvm.ClassFile.FieldType.int)) ∈ lw_all := lw_g (lw_at lw_m7 235 rfl) rfl
theorem q1749 : (Jvm.Cond.instanceMethod ({ cls := "LogGrammarModel", name := "setOffset", desc := "(II)I" } : Jvm.MethodName)) ∈ lw_all := lw_g (lw_at lw_m7 237 rfl) rfl
theorem q1750 : (Jvm.Cond.selects "LogGrammarModel" ({ cls := "LogGrammarModel", name := "setOffset", desc := "(II)I" } : Jvm.MethodName) ({ cls := "LogGrammarModel", name := "setOffset", desc := "(II)I" } : Jvm.MethodName)) ∈ lw_all := lw_g (lw_at lw_m7 238 rfl) rfl
theorem q1751 : (Jvm.Cond.code ({ cls := "LogGrammarModel", name := "setOffset", desc := "(II)I" } : Jvm.MethodName) prog_13_method_31_code (4 : Nat) (Option.some Jvm.ClassFile.FieldType.int)) ∈ lw_all := lw_g (lw_at lw_m7 239 rfl) rfl
theorem q1752 : (Jvm.Cond.methodLink "LogGrammarModel" (177 : Nat) ({ cls := "LogGrammarModel", name := "isNode", desc := "(I)Z" } : Jvm.MethodName)) ∈ lw_all := lw_g (lw_at lw_m8 0 rfl) rfl
theorem q1753 : (Jvm.Cond.static ({ cls := "LogGrammarModel", name := "isNode", desc := "(I)Z" } : Jvm.MethodName)) ∈ lw_all := lw_g (lw_at lw_m8 1 rfl) rfl
theorem q1754 : (Jvm.Cond.code ({ cls := "LogGrammarModel", name := "isNode", desc := "(I)Z" } : Jvm.MethodName) prog_13_method_6_code (1 : Nat) (Option.some Jvm.ClassFile.FieldType.boolean)) ∈ lw_all := lw_g (lw_at lw_m8 2 rfl) rfl
theorem q1755 : (Jvm.Cond.methodLink "LogGrammarModel" (87 : Nat) ({ cls := "LogGrammarModel", name := "in", desc := "(III)Z" } : Jvm.MethodName)) ∈ lw_all := lw_g (lw_at lw_m8 3 rfl) rfl
theorem q1756 : (Jvm.Cond.static ({ cls := "LogGrammarModel", name := "in", desc := "(III)Z" } : Jvm.MethodName)) ∈ lw_all := lw_g (lw_at lw_m8 4 rfl) rfl
theorem q1757 : (Jvm.Cond.code ({ cls := "LogGrammarModel", name := "in", desc := "(III)Z" } : Jvm.MethodName) prog_13_method_3_code (3 : Nat) (Option.some Jvm.ClassFile.FieldType.boolean)) ∈ lw_all := lw_g (lw_at lw_m8 5 rfl) rfl
theorem q1758 : (Jvm.Cond.methodLink "LogGrammarModel" (181 : Nat) ({ cls := "LogGrammarModel", name := "goes", desc := "(ZZZ)Z" } : Jvm.MethodName)) ∈ lw_all := lw_g (lw_at lw_m8 6 rfl) rfl
theorem q1759 : (Jvm.Cond.privateMethod ({ cls := "LogGrammarModel", name := "goes", desc := "(ZZZ)Z" } : Jvm.MethodName)) ∈ lw_tbl := lw_at lw_m8 7 rfl
theorem q1760 : (Jvm.Cond.instanceMethod ({ cls := "LogGrammarModel", name := "goes", desc := "(ZZZ)Z" } : Jvm.MethodName)) ∈ lw_all := lw_g (lw_at lw_m8 8 rfl) rfl
theorem q1761 : (Jvm.Cond.code ({ cls := "LogGrammarModel", name := "goes", desc := "(ZZZ)Z" } : Jvm.MethodName) prog_13_method_4_code (4 : Nat) (Option.some Jvm.ClassFile.FieldType.boolean)) ∈ lw_all := lw_g (lw_at lw_m8 9 rfl) rfl
theorem q1763 : (Jvm.Cond.instanceMethod ({ cls := "LogGrammarModel", name := "setPatience", desc := "(I)I" } : Jvm.MethodName)) ∈ lw_all := lw_g (lw_at lw_m8 11 rfl) rfl
theorem q1764 : (Jvm.Cond.selects "LogGrammarModel" ({ cls := "LogGrammarModel", name := "setPatience", desc := "(I)I" } : Jvm.MethodName) ({ cls := "LogGrammarModel", name := "setPatience", desc := "(I)I" } : Jvm.MethodName)) ∈ lw_all := lw_g (lw_at lw_m8 12 rfl) rfl
theorem q1765 : (Jvm.Cond.code ({ cls := "LogGrammarModel", name := "setPatience", desc := "(I)I" } : Jvm.MethodName) prog_13_method_32_code (3 : Nat) (Option.some Jvm.ClassFile.FieldType.int)) ∈ lw_all := lw_g (lw_at lw_m8 13 rfl) rfl
theorem q1767 : (Jvm.Cond.instanceMethod ({ cls := "LogGrammarModel", name := "event", desc := "(IIIII)I" } : Jvm.MethodName)) ∈ lw_all := lw_g (lw_at lw_m8 15 rfl) rfl
theorem q1768 : (Jvm.Cond.selects "LogGrammarModel" ({ cls := "LogGrammarModel", name := "event", desc := "(IIIII)I" } : Jvm.MethodName) ({ cls := "LogGrammarModel", name := "event", desc := "(IIIII)I" } : Jvm.MethodName)) ∈ lw_all := lw_g (lw_at lw_m8 16 rfl) rfl
theorem q1769 : (Jvm.Cond.code ({ cls := "LogGrammarModel", name := "event", desc := "(IIIII)I" } : Jvm.MethodName) prog_13_method_36_code (7 : Nat) (Option.some Jvm.ClassFile.FieldType.int)) ∈ lw_all := lw_g (lw_at lw_m8 17 rfl) rfl
theorem q1770 : (Jvm.Cond.methodLink "LogGrammarModel" (188 : Nat) ({ cls := "LogGrammarModel", name := "canCome", desc := "(IIIII)Z" } : Jvm.MethodName)) ∈ lw_all := lw_g (lw_at lw_m8 18 rfl) rfl
theorem q1771 : (Jvm.Cond.privateMethod ({ cls := "LogGrammarModel", name := "canCome", desc := "(IIIII)Z" } : Jvm.MethodName)) ∈ lw_tbl := lw_at lw_m8 19 rfl
theorem q1772 : (Jvm.Cond.instanceMethod ({ cls := "LogGrammarModel", name := "canCome", desc := "(IIIII)Z" } : Jvm.MethodName)) ∈ lw_all := lw_g (lw_at lw_m8 20 rfl) rfl
theorem q1773 : (Jvm.Cond.code ({ cls := "LogGrammarModel", name := "canCome", desc := "(IIIII)Z" } : Jvm.MethodName) prog_13_method_33_code (8 : Nat) (Option.some Jvm.ClassFile.FieldType.boolean)) ∈ lw_all := lw_g (lw_at lw_m8 21 rfl) rfl
theorem q1774 : (Jvm.Cond.methodLink "LogGrammarModel" (185 : Nat) ({ cls := "LogGrammarModel", name := "isKind", desc := "(I)Z" } : Jvm.MethodName)) ∈ lw_all := lw_g (lw_at lw_m8 22 rfl) rfl
theorem q1775 : (Jvm.Cond.static ({ cls := "LogGrammarModel", name := "isKind", desc := "(I)Z" } : Jvm.MethodName)) ∈ lw_all := lw_g (lw_at lw_m8 23 rfl) rfl
theorem q1776 : (Jvm.Cond.code ({ cls := "LogGrammarModel", name := "isKind", desc := "(I)Z" } : Jvm.MethodName) prog_13_method_7_code (1 : Nat) (Option.some Jvm.ClassFile.FieldType.boolean)) ∈ lw_all := lw_g (lw_at lw_m8 24 rfl) rfl
theorem q1777 : (Jvm.Cond.methodLink "LogGrammarModel" (192 : Nat) ({ cls := "LogGrammarModel", name := "comes", desc := "(IIIII)V" } : Jvm.MethodName)) ∈ lw_all := lw_g (lw_at lw_m8 25 rfl) rfl
theorem q1778 : (Jvm.Cond.privateMethod ({ cls := "LogGrammarModel", name := "comes", desc := "(IIIII)V" } : Jvm.MethodName)) ∈ lw_tbl := lw_at lw_m8 26 rfl
theorem q1779 : (Jvm.Cond.instanceMethod ({ cls := "LogGrammarModel", name := "comes", desc := "(IIIII)V" } : Jvm.MethodName)) ∈ lw_all := lw_g (lw_at lw_m8 27 rfl) rfl
theorem q1780 : (Jvm.Cond.code ({ cls := "LogGrammarModel", name := "comes", desc := "(IIIII)V" } : Jvm.MethodName) prog_13_method_34_code (8 : Nat) (Option.none : Option Jvm.ClassFile.FieldType)) ∈ lw_all := lw_g (lw_at lw_m8 28 rfl) rfl
theorem q1781 : (Jvm.Cond.methodLink "LogGrammarModel" (196 : Nat) ({ cls := "LogGrammarModel", name := "keepsAll", desc := "(I)I" } : Jvm.MethodName)) ∈ lw_all := lw_g (lw_at lw_m8 29 rfl) rfl
theorem q1782 : (Jvm.Cond.privateMethod ({ cls := "LogGrammarModel", name := "keepsAll", desc := "(I)I" } : Jvm.MethodName)) ∈ lw_tbl := lw_at lw_m8 30 rfl
theorem q1783 : (Jvm.Cond.instanceMethod ({ cls := "LogGrammarModel", name := "keepsAll", desc := "(I)I" } : Jvm.MethodName)) ∈ lw_all := lw_g (lw_at lw_m8 31 rfl) rfl
theorem q1784 : (Jvm.Cond.code ({ cls := "LogGrammarModel", name := "keepsAll", desc := "(I)I" } : Jvm.MethodName) prog_13_method_30_code (4 : Nat) (Option.some Jvm.ClassFile.FieldType.int)) ∈ lw_all := lw_g (lw_at lw_m8 32 rfl) rfl
theorem q1785 : (Jvm.Cond.methodLink "LogGrammarModel" (174 : Nat) ({ cls := "LogGrammarModel", name := "keeps", desc := "(II)I" } : Jvm.MethodName)) ∈ lw_all := lw_g (lw_at lw_m8 33 rfl) rfl
theorem q1786 : (Jvm.Cond.privateMethod ({ cls := "LogGrammarModel", name := "keeps", desc := "(II)I" } : Jvm.MethodName)) ∈ lw_tbl := lw_at lw_m8 34 rfl
theorem q1787 : (Jvm.Cond.instanceMethod ({ cls := "LogGrammarModel", name := "keeps", desc := "(II)I" } : Jvm.MethodName)) ∈ lw_all := lw_g (lw_at lw_m8 35 rfl) rfl
theorem q1788 : (Jvm.Cond.code ({ cls := "LogGrammarModel", name := "keeps", desc := "(II)I" } : Jvm.MethodName) prog_13_method_29_code (7 : Nat) (Option.some Jvm.ClassFile.FieldType.int)) ∈ lw_all := lw_g (lw_at lw_m8 36 rfl) rfl
theorem q1789 : (Jvm.Cond.methodLink "LogGrammarModel" (164 : Nat) ({ cls := "LogGrammarModel", name := "lines", desc := "()V" } : Jvm.MethodName)) ∈ lw_all := lw_g (lw_at lw_m8 37 rfl) rfl
theorem q1790 : (Jvm.Cond.privateMethod ({ cls := "LogGrammarModel", name := "lines", desc := "()V" } : Jvm.MethodName)) ∈ lw_tbl := lw_at lw_m8 38 rfl
theorem q1791 : (Jvm.Cond.instanceMethod ({ cls := "LogGrammarModel", name := "lines", desc := "()V" } : Jvm.MethodName)) ∈ lw_all := lw_g (lw_at lw_m8 39 rfl) rfl
theorem q1792 : (Jvm.Cond.code ({ cls := "LogGrammarModel", name := "lines", desc := "()V" } : Jvm.MethodName) prog_13_method_27_code (2 : Nat) (Option.none : Option Jvm.ClassFile.FieldType)) ∈ lw_all := lw_g (lw_at lw_m8 40 rfl) rfl
theorem q1793 : (Jvm.Cond.methodLink "LogGrammarModel" (167 : Nat) ({ cls := "LogGrammarModel", name := "idsOf", desc := "()I" } : Jvm.MethodName)) ∈ lw_all := lw_g (lw_at lw_m8 41 rfl) rfl
theorem q1794 : (Jvm.Cond.privateMethod ({ cls := "LogGrammarModel", name := "idsOf", desc := "()I" } : Jvm.MethodName)) ∈ lw_tbl := lw_at lw_m8 42 rfl
theorem q1795 : (Jvm.Cond.instanceMethod ({ cls := "LogGrammarModel", name := "idsOf", desc := "()I" } : Jvm.MethodName)) ∈ lw_all := lw_g (lw_at lw_m8 43 rfl) rfl
theorem q1796 : (Jvm.Cond.code ({ cls := "LogGrammarModel", name := "idsOf", desc := "()I" } : Jvm.MethodName) prog_13_method_28_code (3 : Nat) (Option.some Jvm.ClassFile.FieldType.int)) ∈ lw_all := lw_g (lw_at lw_m8 44 rfl) rfl
theorem q1797 : (Jvm.Cond.methodLink "LogGrammarModel" (171 : Nat) ({ cls := "LogGrammarModel", name := "finds", desc := "(I)V" } : Jvm.MethodName)) ∈ lw_all := lw_g (lw_at lw_m8 45 rfl) rfl
theorem q1798 : (Jvm.Cond.privateMethod ({ cls := "LogGrammarModel", name := "finds", desc := "(I)V" } : Jvm.MethodName)) ∈ lw_tbl := lw_at lw_m8 46 rfl
theorem q1799 : (Jvm.Cond.instanceMethod ({ cls := "LogGrammarModel", name := "finds", desc := "(I)V" } : Jvm.MethodName)) ∈ lw_all := lw_g (lw_at lw_m8 47 rfl) rfl
theorem q1800 : (Jvm.Cond.code ({ cls := "LogGrammarModel", name := "finds", desc := "(I)V" } : Jvm.MethodName) prog_13_method_26_code (7 : Nat) (Option.none : Option Jvm.ClassFile.FieldType)) ∈ lw_all := lw_g (lw_at lw_m8 48 rfl) rfl
theorem q1801 : (Jvm.Cond.methodLink "LogGrammarModel" (160 : Nat) ({ cls := "LogGrammarModel", name := "tellsAll", desc := "(I)V" } : Jvm.MethodName)) ∈ lw_all := lw_g (lw_at lw_m8 49 rfl) rfl
theorem q1802 : (Jvm.Cond.privateMethod ({ cls := "LogGrammarModel", name := "tellsAll", desc := "(I)V" } : Jvm.MethodName)) ∈ lw_tbl := lw_at lw_m8 50 rfl
theorem q1803 : (Jvm.Cond.instanceMethod ({ cls := "LogGrammarModel", name := "tellsAll", desc := "(I)V" } : Jvm.MethodName)) ∈ lw_all := lw_g (lw_at lw_m8 51 rfl) rfl
theorem q1804 : (Jvm.Cond.code ({ cls := "LogGrammarModel", name := "tellsAll", desc := "(I)V" } : Jvm.MethodName) prog_13_method_25_code (4 : Nat) (Option.none : Option Jvm.ClassFile.FieldType)) ∈ lw_all := lw_g (lw_at lw_m8 52 rfl) rfl
theorem q1805 : (Jvm.Cond.methodLink "LogGrammarModel" (148 : Nat) ({ cls := "LogGrammarModel", name := "fromOf", desc := "(I)I" } : Jvm.MethodName)) ∈ lw_all := lw_g (lw_at lw_m8 53 rfl) rfl
theorem q1806 : (Jvm.Cond.static ({ cls := "LogGrammarModel", name := "fromOf", desc := "(I)I" } : Jvm.MethodName)) ∈ lw_all := lw_g (lw_at lw_m8 54 rfl) rfl
theorem q1807 : (Jvm.Cond.code ({ cls := "LogGrammarModel", name := "fromOf", desc := "(I)I" } : Jvm.MethodName) prog_13_method_24_code (1 : Nat) (Option.some Jvm.ClassFile.FieldType.int)) ∈ lw_all := lw_g (lw_at lw_m8 55 rfl) rfl
theorem q1808 : (Jvm.Cond.methodLink "LogGrammarModel" (151 : Nat) ({ cls := "LogGrammarModel", name := "tellsAt", desc := "(III)I" } : Jvm.MethodName)) ∈ lw_all := lw_g (lw_at lw_m8 56 rfl) rfl
theorem q1809 : (Jvm.Cond.privateMethod ({ cls := "LogGrammarModel", name := "tellsAt", desc := "(III)I" } : Jvm.MethodName)) ∈ lw_tbl := lw_at lw_m8 57 rfl
theorem q1810 : (Jvm.Cond.instanceMethod ({ cls := "LogGrammarModel", name := "tellsAt", desc := "(III)I" } : Jvm.MethodName)) ∈ lw_all := lw_g (lw_at lw_m8 58 rfl) rfl
theorem q1811 : (Jvm.Cond.code ({ cls := "LogGrammarModel", name := "tellsAt", desc := "(III)I" } : Jvm.MethodName) prog_13_method_23_code (8 : Nat) (Option.some Jvm.ClassFile.FieldType.int)) ∈ lw_all := lw_g (lw_at lw_m8 59 rfl) rfl
theorem q1812 : (Jvm.Cond.methodLink "LogGrammarModel" (124 : Nat) ({ cls := "LogGrammarModel", name := "isValue", desc := "(III)Z" } : Jvm.MethodName)) ∈ lw_all := lw_g (lw_at lw_m8 60 rfl) rfl
theorem q1813 : (Jvm.Cond.privateMethod ({ cls := "LogGrammarModel", name := "isValue", desc := "(III)Z" } : Jvm.MethodName)) ∈ lw_tbl := lw_at lw_m8 61 rfl
theorem q1814 : (Jvm.Cond.instanceMethod ({ cls := "LogGrammarModel", name := "isValue", desc := "(III)Z" } : Jvm.MethodName)) ∈ lw_all := lw_g (lw_at lw_m8 62 rfl) rfl
theorem q1815 : (Jvm.Cond.code ({ cls := "LogGrammarModel", name := "isValue", desc := "(III)Z" } : Jvm.MethodName) prog_13_method_22_code (4 : Nat) (Option.some Jvm.ClassFile.FieldType.boolean)) ∈ lw_all := lw_g (lw_at lw_m8 63 rfl) rfl
theorem q1816 : (Jvm.Cond.methodLink "LogGrammarModel" (107 : Nat) ({ cls := "LogGrammarModel", name := "at", desc := "(II)I" } : Jvm.MethodName)) ∈ lw_all := lw_g (lw_at lw_m8 64 rfl) rfl
theorem q1817 : (Jvm.Cond.privateMethod ({ cls := "LogGrammarModel", name := "at", desc := "(II)I" } : Jvm.MethodName)) ∈ lw_tbl := lw_at lw_m8 65 rfl
theorem q1818 : (Jvm.Cond.instanceMethod ({ cls := "LogGrammarModel", name := "at", desc := "(II)I" } : Jvm.MethodName)) ∈ lw_all := lw_g (lw_at lw_m8 66 rfl) rfl
theorem q1819 : (Jvm.Cond.code ({ cls := "LogGrammarModel", name := "at", desc := "(II)I" } : Jvm.MethodName) prog_13_method_14_code (3 : Nat) (Option.some Jvm.ClassFile.FieldType.int)) ∈ lw_all := lw_g (lw_at lw_m8 67 rfl) rfl
theorem q1820 : (Jvm.Cond.methodLink "LogGrammarModel" (127 : Nat) ({ cls := "LogGrammarModel", name := "not", desc := "(I)I" } : Jvm.MethodName)) ∈ lw_all := lw_g (lw_at lw_m8 68 rfl) rfl
theorem q1821 : (Jvm.Cond.static ({ cls := "LogGrammarModel", name := "not", desc := "(I)I" } : Jvm.MethodName)) ∈ lw_all := lw_g (lw_at lw_m8 69 rfl) rfl
theorem q1822 : (Jvm.Cond.code ({ cls := "LogGrammarModel", name := "not", desc := "(I)I" } : Jvm.MethodName) prog_13_method_11_code (1 : Nat) (Option.some Jvm.ClassFile.FieldType.int)) ∈ lw_all := lw_g (lw_at lw_m8 70 rfl) rfl
theorem q1823 : (Jvm.Cond.methodLink "LogGrammarModel" (111 : Nat) ({ cls := "LogGrammarModel", name := "and", desc := "(II)I" } : Jvm.MethodName)) ∈ lw_all := lw_g (lw_at lw_m8 71 rfl) rfl
theorem q1824 : (Jvm.Cond.static ({ cls := "LogGrammarModel", name := "and", desc := "(II)I" } : Jvm.MethodName)) ∈ lw_all := lw_g (lw_at lw_m8 72 rfl) rfl
theorem q1825 : (Jvm.Cond.code ({ cls := "LogGrammarModel", name := "and", desc := "(II)I" } : Jvm.MethodName) prog_13_method_12_code (2 : Nat) (Option.some Jvm.ClassFile.FieldType.int)) ∈ lw_all := lw_g (lw_at lw_m8 73 rfl) rfl
theorem q1826 : (Jvm.Cond.methodLink "LogGrammarModel" (114 : Nat) ({ cls := "LogGrammarModel", name := "or", desc := "(II)I" } : Jvm.MethodName)) ∈ lw_all := lw_g (lw_at lw_m8 74 rfl) rfl
theorem q1827 : (Jvm.Cond.static ({ cls := "LogGrammarModel", name := "or", desc := "(II)I" } : Jvm.MethodName)) ∈ lw_all := lw_g (lw_at lw_m8 75 rfl) rfl
theorem q1828 : (Jvm.Cond.code ({ cls := "LogGrammarModel", name := "or", desc := "(II)I" } : Jvm.MethodName) prog_13_method_13_code (2 : Nat) (Option.some Jvm.ClassFile.FieldType.int)) ∈ lw_all := lw_g (lw_at lw_m8 76 rfl) rfl
theorem q1829 : (Jvm.Cond.methodLink "LogGrammarModel" (131 : Nat) ({ cls := "LogGrammarModel", name := "sinceAt", desc := "(IIII)I" } : Jvm.MethodName)) ∈ lw_all := lw_g (lw_at lw_m8 77 rfl) rfl
theorem q1830 : (Jvm.Cond.privateMethod ({ cls := "LogGrammarModel", name := "sinceAt", desc := "(IIII)I" } : Jvm.MethodName)) ∈ lw_tbl := lw_at lw_m8 78 rfl
theorem q1831 : (Jvm.Cond.instanceMethod ({ cls := "LogGrammarModel", name := "sinceAt", desc := "(IIII)I" } : Jvm.MethodName)) ∈ lw_all := lw_g (lw_at lw_m8 79 rfl) rfl
theorem q1832 : (Jvm.Cond.code ({ cls := "LogGrammarModel", name := "sinceAt", desc := "(IIII)I" } : Jvm.MethodName) prog_13_method_17_code (8 : Nat) (Option.some Jvm.ClassFile.FieldType.int)) ∈ lw_all := lw_g (lw_at lw_m8 80 rfl) rfl
theorem q1833 : (Jvm.Cond.methodLink "LogGrammarModel" (104 : Nat) ({ cls := "LogGrammarModel", name := "isNear", desc := "(III)Z" } : Jvm.MethodName)) ∈ lw_all := lw_g (lw_at lw_m8 81 rfl) rfl
theorem q1834 : (Jvm.Cond.privateMethod ({ cls := "LogGrammarModel", name := "isNear", desc := "(III)Z" } : Jvm.MethodName)) ∈ lw_tbl := lw_at lw_m8 82 rfl
theorem q1835 : (Jvm.Cond.instanceMethod ({ cls := "LogGrammarModel", name := "isNear", desc := "(III)Z" } : Jvm.MethodName)) ∈ lw_all := lw_g (lw_at lw_m8 83 rfl) rfl
theorem q1836 : (Jvm.Cond.code ({ cls := "LogGrammarModel", name := "isNear", desc := "(III)Z" } : Jvm.MethodName) prog_13_method_15_code (4 : Nat) (Option.some Jvm.ClassFile.FieldType.boolean)) ∈ lw_all := lw_g (lw_at lw_m8 84 rfl) rfl
theorem q1837 : (Jvm.Cond.methodLink "LogGrammarModel" (135 : Nat) ({ cls := "LogGrammarModel", name := "onceAt", desc := "(III)I" } : Jvm.MethodName)) ∈ lw_all := lw_g (lw_at lw_m8 85 rfl) rfl
theorem q1838 : (Jvm.Cond.privateMethod ({ cls := "LogGrammarModel", name := "onceAt", desc := "(III)I" } : Jvm.MethodName)) ∈ lw_tbl := lw_at lw_m8 86 rfl
theorem q1839 : (Jvm.Cond.instanceMethod ({ cls := "LogGrammarModel", name := "onceAt", desc := "(III)I" } : Jvm.MethodName)) ∈ lw_all := lw_g (lw_at lw_m8 87 rfl) rfl
theorem q1840 : (Jvm.Cond.code ({ cls := "LogGrammarModel", name := "onceAt", desc := "(III)I" } : Jvm.MethodName) prog_13_method_18_code (6 : Nat) (Option.some Jvm.ClassFile.FieldType.int)) ∈ lw_all := lw_g (lw_at lw_m8 88 rfl) rfl
theorem q1841 : (Jvm.Cond.methodLink "LogGrammarModel" (139 : Nat) ({ cls := "LogGrammarModel", name := "untilAt", desc := "(IIII)I" } : Jvm.MethodName)) ∈ lw_all := lw_g (lw_at lw_m8 89 rfl) rfl
theorem q1842 : (Jvm.Cond.privateMethod ({ cls := "LogGrammarModel", name := "untilAt", desc := "(IIII)I" } : Jvm.MethodName)) ∈ lw_tbl := lw_at lw_m8 90 rfl
theorem q1843 : (Jvm.Cond.instanceMethod ({ cls := "LogGrammarModel", name := "untilAt", desc := "(IIII)I" } : Jvm.MethodName)) ∈ lw_all := lw_g (lw_at lw_m8 91 rfl) rfl
theorem q1844 : (Jvm.Cond.code ({ cls := "LogGrammarModel", name := "untilAt", desc := "(IIII)I" } : Jvm.MethodName) prog_13_method_19_code (8 : Nat) (Option.some Jvm.ClassFile.FieldType.int)) ∈ lw_all := lw_g (lw_at lw_m8 92 rfl) rfl
theorem q1845 : (Jvm.Cond.methodLink "LogGrammarModel" (120 : Nat) ({ cls := "LogGrammarModel", name := "isOpenFor", desc := "(II)Z" } : Jvm.MethodName)) ∈ lw_all := lw_g (lw_at lw_m8 93 rfl) rfl
theorem q1846 : (Jvm.Cond.privateMethod ({ cls := "LogGrammarModel", name := "isOpenFor", desc := "(II)Z" } : Jvm.MethodName)) ∈ lw_tbl := lw_at lw_m8 94 rfl
theorem q1847 : (Jvm.Cond.instanceMethod ({ cls := "LogGrammarModel", name := "isOpenFor", desc := "(II)Z" } : Jvm.MethodName)) ∈ lw_all := lw_g (lw_at lw_m8 95 rfl) rfl
theorem q1848 : (Jvm.Cond.code ({ cls := "LogGrammarModel", name := "isOpenFor", desc := "(II)Z" } : Jvm.MethodName) prog_13_method_16_code (3 : Nat) (Option.some Jvm.ClassFile.FieldType.boolean)) ∈ lw_all := lw_g (lw_at lw_m8 96 rfl) rfl
theorem q1849 : (Jvm.Cond.methodLink "LogGrammarModel" (142 : Nat) ({ cls := "LogGrammarModel", name := "soonAt", desc := "(III)I" } : Jvm.MethodName)) ∈ lw_all := lw_g (lw_at lw_m8 97 rfl) rfl
theorem q1850 : (Jvm.Cond.privateMethod ({ cls := "LogGrammarModel", name := "soonAt", desc := "(III)I" } : Jvm.MethodName)) ∈ lw_tbl := lw_at lw_m8 98 rfl
theorem q1851 : (Jvm.Cond.instanceMethod ({ cls := "LogGrammarModel", name := "soonAt", desc := "(III)I" } : Jvm.MethodName)) ∈ lw_all := lw_g (lw_at lw_m8 99 rfl) rfl
theorem q1852 : (Jvm.Cond.code ({ cls := "LogGrammarModel", name := "soonAt", desc := "(III)I" } : Jvm.MethodName) prog_13_method_20_code (6 : Nat) (Option.some Jvm.ClassFile.FieldType.int)) ∈ lw_all := lw_g (lw_at lw_m8 100 rfl) rfl
theorem q1853 : (Jvm.Cond.methodLink "LogGrammarModel" (145 : Nat) ({ cls := "LogGrammarModel", name := "manyAt", desc := "(IIII)I" } : Jvm.MethodName)) ∈ lw_all := lw_g (lw_at lw_m8 101 rfl) rfl
theorem q1854 : (Jvm.Cond.privateMethod ({ cls := "LogGrammarModel", name := "manyAt", desc := "(IIII)I" } : Jvm.MethodName)) ∈ lw_tbl := lw_at lw_m8 102 rfl
theorem q1855 : (Jvm.Cond.instanceMethod ({ cls := "LogGrammarModel", name := "manyAt", desc := "(IIII)I" } : Jvm.MethodName)) ∈ lw_all := lw_g (lw_at lw_m8 103 rfl) rfl
theorem q1856 : (Jvm.Cond.code ({ cls := "LogGrammarModel", name := "manyAt", desc := "(IIII)I" } : Jvm.MethodName) prog_13_method_21_code (8 : Nat) (Option.some Jvm.ClassFile.FieldType.int)) ∈ lw_all := lw_g (lw_at lw_m8 104 rfl) rfl
theorem q1858 : (Jvm.Cond.instanceMethod ({ cls := "LogGrammarModel", name := "offer", desc := "(IIIII)I" } : Jvm.MethodName)) ∈ lw_all := lw_g (lw_at lw_m8 106 rfl) rfl
theorem q1859 : (Jvm.Cond.selects "LogGrammarModel" ({ cls := "LogGrammarModel", name := "offer", desc := "(IIIII)I" } : Jvm.MethodName) ({ cls := "LogGrammarModel", name := "offer", desc := "(IIIII)I" } : Jvm.MethodName)) ∈ lw_all := lw_g (lw_at lw_m8 107 rfl) rfl
theorem q1860 : (Jvm.Cond.code ({ cls := "LogGrammarModel", name := "offer", desc := "(IIIII)I" } : Jvm.MethodName) prog_13_method_38_code (8 : Nat) (Option.some Jvm.ClassFile.FieldType.int)) ∈ lw_all := lw_g (lw_at lw_m8 108 rfl) rfl
theorem q1861 : (Jvm.Cond.methodLink "LogGrammarModel" (199 : Nat) ({ cls := "LogGrammarModel", name := "isGuarded", desc := "()Z" } : Jvm.MethodName)) ∈ lw_all := lw_g (lw_at lw_m8 109 rfl) rfl
theorem q1862 : (Jvm.Cond.privateMethod ({ cls := "LogGrammarModel", name := "isGuarded", desc := "()Z" } : Jvm.MethodName)) ∈ lw_tbl := lw_at lw_m8 110 rfl
theorem q1863 : (Jvm.Cond.instanceMethod ({ cls := "LogGrammarModel", name := "isGuarded", desc := "()Z" } : Jvm.MethodName)) ∈ lw_all := lw_g (lw_at lw_m8 111 rfl) rfl
theorem q1864 : (Jvm.Cond.code ({ cls := "LogGrammarModel", name := "isGuarded", desc := "()Z" } : Jvm.MethodName) prog_13_method_37_code (4 : Nat) (Option.some Jvm.ClassFile.FieldType.boolean)) ∈ lw_all := lw_g (lw_at lw_m8 112 rfl) rfl
theorem q1865 : (Jvm.Cond.methodLink "LogGrammarModel" (203 : Nat) ({ cls := "LogGrammarModel", name := "goesAway", desc := "(I)V" } : Jvm.MethodName)) ∈ lw_all := lw_g (lw_at lw_m8 113 rfl) rfl
theorem q1866 : (Jvm.Cond.privateMethod ({ cls := "LogGrammarModel", name := "goesAway", desc := "(I)V" } : Jvm.MethodName)) ∈ lw_tbl := lw_at lw_m8 114 rfl
theorem q1867 : (Jvm.Cond.instanceMethod ({ cls := "LogGrammarModel", name := "goesAway", desc := "(I)V" } : Jvm.MethodName)) ∈ lw_all := lw_g (lw_at lw_m8 115 rfl) rfl
theorem q1868 : (Jvm.Cond.code ({ cls := "LogGrammarModel", name := "goesAway", desc := "(I)V" } : Jvm.MethodName) prog_13_method_35_code (4 : Nat) (Option.none : Option Jvm.ClassFile.FieldType)) ∈ lw_all := lw_g (lw_at lw_m8 116 rfl) rfl
theorem q1870 : (Jvm.Cond.instanceMethod ({ cls := "LogGrammarModel", name := "close", desc := "()I" } : Jvm.MethodName)) ∈ lw_all := lw_g (lw_at lw_m8 118 rfl) rfl
theorem q1871 : (Jvm.Cond.selects "LogGrammarModel" ({ cls := "LogGrammarModel", name := "close", desc := "()I" } : Jvm.MethodName) ({ cls := "LogGrammarModel", name := "close", desc := "()I" } : Jvm.MethodName)) ∈ lw_all := lw_g (lw_at lw_m8 119 rfl) rfl
theorem q1872 : (Jvm.Cond.code ({ cls := "LogGrammarModel", name := "close", desc := "()I" } : Jvm.MethodName) prog_13_method_39_code (1 : Nat) (Option.some Jvm.ClassFile.FieldType.int)) ∈ lw_all := lw_g (lw_at lw_m8 120 rfl) rfl
theorem q1874 : (Jvm.Cond.instanceMethod ({ cls := "LogGrammarModel", name := "kindIs", desc := "(I)I" } : Jvm.MethodName)) ∈ lw_all := lw_g (lw_at lw_m8 122 rfl) rfl
theorem q1875 : (Jvm.Cond.selects "LogGrammarModel" ({ cls := "LogGrammarModel", name := "kindIs", desc := "(I)I" } : Jvm.MethodName) ({ cls := "LogGrammarModel", name := "kindIs", desc := "(I)I" } : Jvm.MethodName)) ∈ lw_all := lw_g (lw_at lw_m8 123 rfl) rfl
theorem q1876 : (Jvm.Cond.code ({ cls := "LogGrammarModel", name := "kindIs", desc := "(I)I" } : Jvm.MethodName) prog_13_method_46_code (2 : Nat) (Option.some Jvm.ClassFile.FieldType.int)) ∈ lw_all := lw_g (lw_at lw_m8 124 rfl) rfl
theorem q1877 : (Jvm.Cond.methodLink "LogGrammarModel" (228 : Nat) ({ cls := "LogGrammarModel", name := "lays", desc := "(III)I" } : Jvm.MethodName)) ∈ lw_all := lw_g (lw_at lw_m8 125 rfl) rfl
theorem q1878 : (Jvm.Cond.privateMethod ({ cls := "LogGrammarModel", name := "lays", desc := "(III)I" } : Jvm.MethodName)) ∈ lw_tbl := lw_at lw_m8 126 rfl
theorem q1879 : (Jvm.Cond.instanceMethod ({ cls := "LogGrammarModel", name := "lays", desc := "(III)I" } : Jvm.MethodName)) ∈ lw_all := lw_g (lw_at lw_m8 127 rfl) rfl
theorem q1880 : (Jvm.Cond.code ({ cls := "LogGrammarModel", name := "lays", desc := "(III)I" } : Jvm.MethodName) prog_13_method_41_code (4 : Nat) (Option.some Jvm.ClassFile.FieldType.int)) ∈ lw_all := lw_g (lw_at lw_m8 128 rfl) rfl
theorem q1881 : (Jvm.Cond.methodLink "LogGrammarModel" (212 : Nat) ({ cls := "LogGrammarModel", name := "puts", desc := "(IIII)V" } : Jvm.MethodName)) ∈ lw_all := lw_g (lw_at lw_m8 129 rfl) rfl
theorem q1882 : (Jvm.Cond.privateMethod ({ cls := "LogGrammarModel", name := "puts", desc := "(IIII)V" } : Jvm.MethodName)) ∈ lw_tbl := lw_at lw_m8 130 rfl
theorem q1883 : (Jvm.Cond.instanceMethod ({ cls := "LogGrammarModel", name := "puts", desc := "(IIII)V" } : Jvm.MethodName)) ∈ lw_all := lw_g (lw_at lw_m8 131 rfl) rfl
theorem q1884 : (Jvm.Cond.code ({ cls := "LogGrammarModel", name := "puts", desc := "(IIII)V" } : Jvm.MethodName) prog_13_method_40_code (5 : Nat) (Option.none : Option Jvm.ClassFile.FieldType)) ∈ lw_all := lw_g (lw_at lw_m8 132 rfl) rfl
theorem q1886 : (Jvm.Cond.instanceMethod ({ cls := "LogGrammarModel", name := "valueIs", desc := "(II)I" } : Jvm.MethodName)) ∈ lw_all := lw_g (lw_at lw_m8 134 rfl) rfl
theorem q1887 : (Jvm.Cond.selects "LogGrammarModel" ({ cls := "LogGrammarModel", name := "valueIs", desc := "(II)I" } : Jvm.MethodName) ({ cls := "LogGrammarModel", name := "valueIs", desc := "(II)I" } : Jvm.MethodName)) ∈ lw_all := lw_g (lw_at lw_m8 135 rfl) rfl
theorem q1888 : (Jvm.Cond.code ({ cls := "LogGrammarModel", name := "valueIs", desc := "(II)I" } : Jvm.MethodName) prog_13_method_47_code (3 : Nat) (Option.some Jvm.ClassFile.FieldType.int)) ∈ lw_all := lw_g (lw_at lw_m8 136 rfl) rfl
theorem q1890 : (Jvm.Cond.instanceMethod ({ cls := "LogGrammarModel", name := "not", desc := "()I" } : Jvm.MethodName)) ∈ lw_all := lw_g (lw_at lw_m8 138 rfl) rfl
theorem q1891 : (Jvm.Cond.selects "LogGrammarModel" ({ cls := "LogGrammarModel", name := "not", desc := "()I" } : Jvm.MethodName) ({ cls := "LogGrammarModel", name := "not", desc := "()I" } : Jvm.MethodName)) ∈ lw_all := lw_g (lw_at lw_m8 139 rfl) rfl
theorem q1892 : (Jvm.Cond.code ({ cls := "LogGrammarModel", name := "not", desc := "()I" } : Jvm.MethodName) prog_13_method_48_code (1 : Nat) (Option.some Jvm.ClassFile.FieldType.int)) ∈ lw_all := lw_g (lw_at lw_m8 140 rfl) rfl
theorem q1893 : (Jvm.Cond.methodLink "LogGrammarModel" (231 : Nat) ({ cls := "LogGrammarModel", name := "joins", desc := "(II)I" } : Jvm.MethodName)) ∈ lw_all := lw_g (lw_at lw_m8 141 rfl) rfl
theorem q1894 : (Jvm.Cond.privateMethod ({ cls := "LogGrammarModel", name := "joins", desc := "(II)I" } : Jvm.MethodName)) ∈ lw_tbl := lw_at lw_m8 142 rfl
theorem q1895 : (Jvm.Cond.instanceMethod ({ cls := "LogGrammarModel", name := "joins", desc := "(II)I" } : Jvm.MethodName)) ∈ lw_all := lw_g (lw_at lw_m8 143 rfl) rfl
theorem q1896 : (Jvm.Cond.code ({ cls := "LogGrammarModel", name := "joins", desc := "(II)I" } : Jvm.MethodName) prog_13_method_44_code (3 : Nat) (Option.some Jvm.ClassFile.FieldType.int)) ∈ lw_all := lw_g (lw_at lw_m8 144 rfl) rfl
theorem q1897 : (Jvm.Cond.methodLink "LogGrammarModel" (219 : Nat) ({ cls := "LogGrammarModel", name := "canMake", desc := "(I)Z" } : Jvm.MethodName)) ∈ lw_all := lw_g (lw_at lw_m8 145 rfl) rfl
theorem q1898 : (Jvm.Cond.privateMethod ({ cls := "LogGrammarModel", name := "canMake", desc := "(I)Z" } : Jvm.MethodName)) ∈ lw_tbl := lw_at lw_m8 146 rfl
theorem q1899 : (Jvm.Cond.instanceMethod ({ cls := "LogGrammarModel", name := "canMake", desc := "(I)Z" } : Jvm.MethodName)) ∈ lw_all := lw_g (lw_at lw_m8 147 rfl) rfl
theorem q1900 : (Jvm.Cond.code ({ cls := "LogGrammarModel", name := "canMake", desc := "(I)Z" } : Jvm.MethodName) prog_13_method_42_code (4 : Nat) (Option.some Jvm.ClassFile.FieldType.boolean)) ∈ lw_all := lw_g (lw_at lw_m8 148 rfl) rfl
theorem q1901 : (Jvm.Cond.methodLink "LogGrammarModel" (222 : Nat) ({ cls := "LogGrammarModel", name := "makes", desc := "(IIII)I" } : Jvm.MethodName)) ∈ lw_all := lw_g (lw_at lw_m8 149 rfl) rfl
theorem q1902 : (Jvm.Cond.privateMethod ({ cls := "LogGrammarModel", name := "makes", desc := "(IIII)I" } : Jvm.MethodName)) ∈ lw_tbl := lw_at lw_m8 150 rfl
theorem q1903 : (Jvm.Cond.instanceMethod ({ cls := "LogGrammarModel", name := "makes", desc := "(IIII)I" } : Jvm.MethodName)) ∈ lw_all := lw_g (lw_at lw_m8 151 rfl) rfl
theorem q1904 : (Jvm.Cond.code ({ cls := "LogGrammarModel", name := "makes", desc := "(IIII)I" } : Jvm.MethodName) prog_13_method_43_code (7 : Nat) (Option.some Jvm.ClassFile.FieldType.int)) ∈ lw_all := lw_g (lw_at lw_m8 152 rfl) rfl
theorem q1906 : (Jvm.Cond.instanceMethod ({ cls := "LogGrammarModel", name := "both", desc := "()I" } : Jvm.MethodName)) ∈ lw_all := lw_g (lw_at lw_m8 154 rfl) rfl
theorem q1907 : (Jvm.Cond.selects "LogGrammarModel" ({ cls := "LogGrammarModel", name := "both", desc := "()I" } : Jvm.MethodName) ({ cls := "LogGrammarModel", name := "both", desc := "()I" } : Jvm.MethodName)) ∈ lw_all := lw_g (lw_at lw_m8 155 rfl) rfl
theorem q1908 : (Jvm.Cond.code ({ cls := "LogGrammarModel", name := "both", desc := "()I" } : Jvm.MethodName) prog_13_method_49_code (1 : Nat) (Option.some Jvm.ClassFile.FieldType.int)) ∈ lw_all := lw_g (lw_at lw_m8 156 rfl) rfl
theorem q1910 : (Jvm.Cond.instanceMethod ({ cls := "LogGrammarModel", name := "either", desc := "()I" } : Jvm.MethodName)) ∈ lw_all := lw_g (lw_at lw_m8 158 rfl) rfl
theorem q1911 : (Jvm.Cond.selects "LogGrammarModel" ({ cls := "LogGrammarModel", name := "either", desc := "()I" } : Jvm.MethodName) ({ cls := "LogGrammarModel", name := "either", desc := "()I" } : Jvm.MethodName)) ∈ lw_all := lw_g (lw_at lw_m8 159 rfl) rfl
theorem q1912 : (Jvm.Cond.code ({ cls := "LogGrammarModel", name := "either", desc := "()I" } : Jvm.MethodName) prog_13_method_50_code (1 : Nat) (Option.some Jvm.ClassFile.FieldType.int)) ∈ lw_all := lw_g (lw_at lw_m8 160 rfl) rfl
theorem q1914 : (Jvm.Cond.instanceMethod ({ cls := "LogGrammarModel", name := "before", desc := "()I" } : Jvm.MethodName)) ∈ lw_all := lw_g (lw_at lw_m8 162 rfl) rfl
theorem q1915 : (Jvm.Cond.selects "LogGrammarModel" ({ cls := "LogGrammarModel", name := "before", desc := "()I" } : Jvm.MethodName) ({ cls := "LogGrammarModel", name := "before", desc := "()I" } : Jvm.MethodName)) ∈ lw_all := lw_g (lw_at lw_m8 163 rfl) rfl
theorem q1916 : (Jvm.Cond.code ({ cls := "LogGrammarModel", name := "before", desc := "()I" } : Jvm.MethodName) prog_13_method_51_code (1 : Nat) (Option.some Jvm.ClassFile.FieldType.int)) ∈ lw_all := lw_g (lw_at lw_m8 164 rfl) rfl
theorem q1918 : (Jvm.Cond.instanceMethod ({ cls := "LogGrammarModel", name := "since", desc := "(I)I" } : Jvm.MethodName)) ∈ lw_all := lw_g (lw_at lw_m8 166 rfl) rfl
theorem q1919 : (Jvm.Cond.selects "LogGrammarModel" ({ cls := "LogGrammarModel", name := "since", desc := "(I)I" } : Jvm.MethodName) ({ cls := "LogGrammarModel", name := "since", desc := "(I)I" } : Jvm.MethodName)) ∈ lw_all := lw_g (lw_at lw_m8 167 rfl) rfl
theorem q1920 : (Jvm.Cond.code ({ cls := "LogGrammarModel", name := "since", desc := "(I)I" } : Jvm.MethodName) prog_13_method_52_code (2 : Nat) (Option.some Jvm.ClassFile.FieldType.int)) ∈ lw_all := lw_g (lw_at lw_m8 168 rfl) rfl
theorem q1921 : (Jvm.Cond.methodLink "LogGrammarModel" (234 : Nat) ({ cls := "LogGrammarModel", name := "binds", desc := "(III)I" } : Jvm.MethodName)) ∈ lw_all := lw_g (lw_at lw_m8 169 rfl) rfl
theorem q1922 : (Jvm.Cond.privateMethod ({ cls := "LogGrammarModel", name := "binds", desc := "(III)I" } : Jvm.MethodName)) ∈ lw_tbl := lw_at lw_m8 170 rfl
theorem q1923 : (Jvm.Cond.instanceMethod ({ cls := "LogGrammarModel", name := "binds", desc := "(III)I" } : Jvm.MethodName)) ∈ lw_all := lw_g (lw_at lw_m8 171 rfl) rfl
theorem q1924 : (Jvm.Cond.code ({ cls := "LogGrammarModel", name := "binds", desc := "(III)I" } : Jvm.MethodName) prog_13_method_45_code (4 : Nat) (Option.some Jvm.ClassFile.FieldType.int)) ∈ lw_all := lw_g (lw_at lw_m8 172 rfl) rfl
theorem q1925 : (Jvm.Cond.methodLink "LogGrammarModel" (225 : Nat) ({ cls := "LogGrammarModel", name := "isBound", desc := "(I)Z" } : Jvm.MethodName)) ∈ lw_all := lw_g (lw_at lw_m8 173 rfl) rfl
theorem q1926 : (Jvm.Cond.static ({ cls := "LogGrammarModel", name := "isBound", desc := "(I)Z" } : Jvm.MethodName)) ∈ lw_all := lw_g (lw_at lw_m8 174 rfl) rfl
theorem q1927 : (Jvm.Cond.code ({ cls := "LogGrammarModel", name := "isBound", desc := "(I)Z" } : Jvm.MethodName) prog_13_method_8_code (1 : Nat) (Option.some Jvm.ClassFile.FieldType.boolean)) ∈ lw_all := lw_g (lw_at lw_m8 175 rfl) rfl
theorem q1929 : (Jvm.Cond.instanceMethod ({ cls := "LogGrammarModel", name := "once", desc := "(I)I" } : Jvm.MethodName)) ∈ lw_all := lw_g (lw_at lw_m8 177 rfl) rfl
theorem q1930 : (Jvm.Cond.selects "LogGrammarModel" ({ cls := "LogGrammarModel", name := "once", desc := "(I)I" } : Jvm.MethodName) ({ cls := "LogGrammarModel", name := "once", desc := "(I)I" } : Jvm.MethodName)) ∈ lw_all := lw_g (lw_at lw_m8 178 rfl) rfl
theorem q1931 : (Jvm.Cond.code ({ cls := "LogGrammarModel", name := "once", desc := "(I)I" } : Jvm.MethodName) prog_13_method_53_code (2 : Nat) (Option.some Jvm.ClassFile.FieldType.int)) ∈ lw_all := lw_g (lw_at lw_m8 179 rfl) rfl
theorem q1933 : (Jvm.Cond.instanceMethod ({ cls := "LogGrammarModel", name := "next", desc := "()I" } : Jvm.MethodName)) ∈ lw_all := lw_g (lw_at lw_m8 181 rfl) rfl
theorem q1934 : (Jvm.Cond.selects "LogGrammarModel" ({ cls := "LogGrammarModel", name := "next", desc := "()I" } : Jvm.MethodName) ({ cls := "LogGrammarModel", name := "next", desc := "()I" } : Jvm.MethodName)) ∈ lw_all := lw_g (lw_at lw_m8 182 rfl) rfl
theorem q1935 : (Jvm.Cond.code ({ cls := "LogGrammarModel", name := "next", desc := "()I" } : Jvm.MethodName) prog_13_method_54_code (1 : Nat) (Option.some Jvm.ClassFile.FieldType.int)) ∈ lw_all := lw_g (lw_at lw_m8 183 rfl) rfl
theorem q1937 : (Jvm.Cond.instanceMethod ({ cls := "LogGrammarModel", name := "until", desc := "(I)I" } : Jvm.MethodName)) ∈ lw_all := lw_g (lw_at lw_m8 185 rfl) rfl
theorem q1938 : (Jvm.Cond.selects "LogGrammarModel" ({ cls := "LogGrammarModel", name := "until", desc := "(I)I" } : Jvm.MethodName) ({ cls := "LogGrammarModel", name := "until", desc := "(I)I" } : Jvm.MethodName)) ∈ lw_all := lw_g (lw_at lw_m8 186 rfl) rfl
theorem q1939 : (Jvm.Cond.code ({ cls := "LogGrammarModel", name := "until", desc := "(I)I" } : Jvm.MethodName) prog_13_method_55_code (2 : Nat) (Option.some Jvm.ClassFile.FieldType.int)) ∈ lw_all := lw_g (lw_at lw_m8 187 rfl) rfl
theorem q1941 : (Jvm.Cond.instanceMethod ({ cls := "LogGrammarModel", name := "soon", desc := "(I)I" } : Jvm.MethodName)) ∈ lw_all := lw_g (lw_at lw_m8 189 rfl) rfl
theorem q1942 : (Jvm.Cond.selects "LogGrammarModel" ({ cls := "LogGrammarModel", name := "soon", desc := "(I)I" } : Jvm.MethodName) ({ cls := "LogGrammarModel", name := "soon", desc := "(I)I" } : Jvm.MethodName)) ∈ lw_all := lw_g (lw_at lw_m8 190 rfl) rfl
theorem q1943 : (Jvm.Cond.code ({ cls := "LogGrammarModel", name := "soon", desc := "(I)I" } : Jvm.MethodName) prog_13_method_56_code (2 : Nat) (Option.some Jvm.ClassFile.FieldType.int)) ∈ lw_all := lw_g (lw_at lw_m8 191 rfl) rfl
theorem q1945 : (Jvm.Cond.instanceMethod ({ cls := "LogGrammarModel", name := "many", desc := "(II)I" } : Jvm.MethodName)) ∈ lw_all := lw_g (lw_at lw_m8 193 rfl) rfl
theorem q1946 : (Jvm.Cond.selects "LogGrammarModel" ({ cls := "LogGrammarModel", name := "many", desc := "(II)I" } : Jvm.MethodName) ({ cls := "LogGrammarModel", name := "many", desc := "(II)I" } : Jvm.MethodName)) ∈ lw_all := lw_g (lw_at lw_m8 194 rfl) rfl
theorem q1947 : (Jvm.Cond.code ({ cls := "LogGrammarModel", name := "many", desc := "(II)I" } : Jvm.MethodName) prog_13_method_57_code (3 : Nat) (Option.some Jvm.ClassFile.FieldType.int)) ∈ lw_all := lw_g (lw_at lw_m8 195 rfl) rfl
theorem q1949 : (Jvm.Cond.instanceMethod ({ cls := "LogGrammarModel", name := "scrap", desc := "()I" } : Jvm.MethodName)) ∈ lw_all := lw_g (lw_at lw_m8 197 rfl) rfl
theorem q1950 : (Jvm.Cond.selects "LogGrammarModel" ({ cls := "LogGrammarModel", name := "scrap", desc := "()I" } : Jvm.MethodName) ({ cls := "LogGrammarModel", name := "scrap", desc := "()I" } : Jvm.MethodName)) ∈ lw_all := lw_g (lw_at lw_m8 198 rfl) rfl
theorem q1951 : (Jvm.Cond.code ({ cls := "LogGrammarModel", name := "scrap", desc := "()I" } : Jvm.MethodName) prog_13_method_58_code (2 : Nat) (Option.some Jvm.ClassFile.FieldType.int)) ∈ lw_all := lw_g (lw_at lw_m8 199 rfl) rfl
theorem q1952 : (Jvm.Cond.methodLink "LogGrammarModel" (237 : Nat) ({ cls := "LogGrammarModel", name := "tells", desc := "(I)I" } : Jvm.MethodName)) ∈ lw_all := lw_g (lw_at lw_m8 200 rfl) rfl
theorem q1953 : (Jvm.Cond.privateMethod ({ cls := "LogGrammarModel", name := "tells", desc := "(I)I" } : Jvm.MethodName)) ∈ lw_tbl := lw_at lw_m8 201 rfl
theorem q1954 : (Jvm.Cond.instanceMethod ({ cls := "LogGrammarModel", name := "tells", desc := "(I)I" } : Jvm.MethodName)) ∈ lw_all := lw_g (lw_at lw_m8 202 rfl) rfl
theorem q1955 : (Jvm.Cond.code ({ cls := "LogGrammarModel", name := "tells", desc := "(I)I" } : Jvm.MethodName) prog_13_method_5_code (2 : Nat) (Option.some Jvm.ClassFile.FieldType.int)) ∈ lw_all := lw_g (lw_at lw_m8 203 rfl) rfl
theorem q1957 : (Jvm.Cond.instanceMethod ({ cls := "LogGrammarModel", name := "watch", desc := "(ZZ)I" } : Jvm.MethodName)) ∈ lw_all := lw_g (lw_at lw_m8 205 rfl) rfl
theorem q1958 : (Jvm.Cond.selects "LogGrammarModel" ({ cls := "LogGrammarModel", name := "watch", desc := "(ZZ)I" } : Jvm.MethodName) ({ cls := "LogGrammarModel", name := "watch", desc := "(ZZ)I" } : Jvm.MethodName)) ∈ lw_all := lw_g (lw_at lw_m8 206 rfl) rfl
theorem q1959 : (Jvm.Cond.code ({ cls := "LogGrammarModel", name := "watch", desc := "(ZZ)I" } : Jvm.MethodName) prog_13_method_59_code (5 : Nat) (Option.some Jvm.ClassFile.FieldType.int)) ∈ lw_all := lw_g (lw_at lw_m8 207 rfl) rfl
theorem q1961 : (Jvm.Cond.instanceMethod ({ cls := "LogGrammarModel", name := "events", desc := "()I" } : Jvm.MethodName)) ∈ lw_all := lw_g (lw_at lw_m8 209 rfl) rfl
theorem q1962 : (Jvm.Cond.selects "LogGrammarModel" ({ cls := "LogGrammarModel", name := "events", desc := "()I" } : Jvm.MethodName) ({ cls := "LogGrammarModel", name := "events", desc := "()I" } : Jvm.MethodName)) ∈ lw_all := lw_g (lw_at lw_m8 210 rfl) rfl
theorem q1963 : (Jvm.Cond.code ({ cls := "LogGrammarModel", name := "events", desc := "()I" } : Jvm.MethodName) prog_13_method_60_code (1 : Nat) (Option.some Jvm.ClassFile.FieldType.int)) ∈ lw_all := lw_g (lw_at lw_m8 211 rfl) rfl
theorem q1965 : (Jvm.Cond.instanceMethod ({ cls := "LogGrammarModel", name := "dropped", desc := "()I" } : Jvm.MethodName)) ∈ lw_all := lw_g (lw_at lw_m8 213 rfl) rfl
theorem q1966 : (Jvm.Cond.selects "LogGrammarModel" ({ cls := "LogGrammarModel", name := "dropped", desc := "()I" } : Jvm.MethodName) ({ cls := "LogGrammarModel", name := "dropped", desc := "()I" } : Jvm.MethodName)) ∈ lw_all := lw_g (lw_at lw_m8 214 rfl) rfl
theorem q1967 : (Jvm.Cond.code ({ cls := "LogGrammarModel", name := "dropped", desc := "()I" } : Jvm.MethodName) prog_13_method_61_code (1 : Nat) (Option.some Jvm.ClassFile.FieldType.int)) ∈ lw_all := lw_g (lw_at lw_m8 215 rfl) rfl
theorem q1969 : (Jvm.Cond.instanceMethod ({ cls := "LogGrammarModel", name := "present", desc := "()I" } : Jvm.MethodName)) ∈ lw_all := lw_g (lw_at lw_m8 217 rfl) rfl
theorem q1970 : (Jvm.Cond.selects "LogGrammarModel" ({ cls := "LogGrammarModel", name := "present", desc := "()I" } : Jvm.MethodName) ({ cls := "LogGrammarModel", name := "present", desc := "()I" } : Jvm.MethodName)) ∈ lw_all := lw_g (lw_at lw_m8 218 rfl) rfl
theorem q1971 : (Jvm.Cond.code ({ cls := "LogGrammarModel", name := "present", desc := "()I" } : Jvm.MethodName) prog_13_method_62_code (1 : Nat) (Option.some Jvm.ClassFile.FieldType.int)) ∈ lw_all := lw_g (lw_at lw_m8 219 rfl) rfl
theorem q1973 : (Jvm.Cond.instanceMethod ({ cls := "LogGrammarModel", name := "eventAt", desc := "(I)I" } : Jvm.MethodName)) ∈ lw_all := lw_g (lw_at lw_m8 221 rfl) rfl
theorem q1974 : (Jvm.Cond.selects "LogGrammarModel" ({ cls := "LogGrammarModel", name := "eventAt", desc := "(I)I" } : Jvm.MethodName) ({ cls := "LogGrammarModel", name := "eventAt", desc := "(I)I" } : Jvm.MethodName)) ∈ lw_all := lw_g (lw_at lw_m8 222 rfl) rfl
theorem q1975 : (Jvm.Cond.code ({ cls := "LogGrammarModel", name := "eventAt", desc := "(I)I" } : Jvm.MethodName) prog_13_method_63_code (2 : Nat) (Option.some Jvm.ClassFile.FieldType.int)) ∈ lw_all := lw_g (lw_at lw_m8 223 rfl) rfl
theorem q1976 : (Jvm.Cond.methodLink "LogGrammarModel" (240 : Nat) ({ cls := "LogGrammarModel", name := "isEvent", desc := "(I)Z" } : Jvm.MethodName)) ∈ lw_all := lw_g (lw_at lw_m8 224 rfl) rfl
theorem q1977 : (Jvm.Cond.privateMethod ({ cls := "LogGrammarModel", name := "isEvent", desc := "(I)Z" } : Jvm.MethodName)) ∈ lw_tbl := lw_at lw_m8 225 rfl
theorem q1978 : (Jvm.Cond.instanceMethod ({ cls := "LogGrammarModel", name := "isEvent", desc := "(I)Z" } : Jvm.MethodName)) ∈ lw_all := lw_g (lw_at lw_m8 226 rfl) rfl
theorem q1979 : (Jvm.Cond.code ({ cls := "LogGrammarModel", name := "isEvent", desc := "(I)Z" } : Jvm.MethodName) prog_13_method_9_code (2 : Nat) (Option.some Jvm.ClassFile.FieldType.boolean)) ∈ lw_all := lw_g (lw_at lw_m8 227 rfl) rfl
theorem q1981 : (Jvm.Cond.instanceMethod ({ cls := "LogGrammarModel", name := "timeOf", desc := "(I)I" } : Jvm.MethodName)) ∈ lw_all := lw_g (lw_at lw_m8 229 rfl) rfl
theorem q1982 : (Jvm.Cond.selects "LogGrammarModel" ({ cls := "LogGrammarModel", name := "timeOf", desc := "(I)I" } : Jvm.MethodName) ({ cls := "LogGrammarModel", name := "timeOf", desc := "(I)I" } : Jvm.MethodName)) ∈ lw_all := lw_g (lw_at lw_m8 230 rfl) rfl
theorem q1983 : (Jvm.Cond.code ({ cls := "LogGrammarModel", name := "timeOf", desc := "(I)I" } : Jvm.MethodName) prog_13_method_64_code (2 : Nat) (Option.some Jvm.ClassFile.FieldType.int)) ∈ lw_all := lw_g (lw_at lw_m8 231 rfl) rfl
theorem q1985 : (Jvm.Cond.instanceMethod ({ cls := "LogGrammarModel", name := "isLate", desc := "(I)Z" } : Jvm.MethodName)) ∈ lw_all := lw_g (lw_at lw_m8 233 rfl) rfl
theorem q1986 : (Jvm.Cond.selects "LogGrammarModel" ({ cls := "LogGrammarModel", name := "isLate", desc := "(I)Z" } : Jvm.MethodName) ({ cls := "LogGrammarModel", name := "isLate", desc := "(I)Z" } : Jvm.MethodName)) ∈ lw_all := lw_g (lw_at lw_m8 234 rfl) rfl
theorem q1987 : (Jvm.Cond.code ({ cls := "LogGrammarModel", name := "isLate", desc := "(I)Z" } : Jvm.MethodName) prog_13_method_65_code (2 : Nat) (Option.some Jvm.ClassFile.FieldType.boolean)) ∈ lw_all := lw_g (lw_at lw_m8 235 rfl) rfl
theorem q1989 : (Jvm.Cond.instanceMethod ({ cls := "LogGrammarModel", name := "count", desc := "(III)I" } : Jvm.MethodName)) ∈ lw_all := lw_g (lw_at lw_m8 237 rfl) rfl
theorem q1990 : (Jvm.Cond.selects "LogGrammarModel" ({ cls := "LogGrammarModel", name := "count", desc := "(III)I" } : Jvm.MethodName) ({ cls := "LogGrammarModel", name := "count", desc := "(III)I" } : Jvm.MethodName)) ∈ lw_all := lw_g (lw_at lw_m8 238 rfl) rfl
theorem q1991 : (Jvm.Cond.code ({ cls := "LogGrammarModel", name := "count", desc := "(III)I" } : Jvm.MethodName) prog_13_method_67_code (6 : Nat) (Option.some Jvm.ClassFile.FieldType.int)) ∈ lw_all := lw_g (lw_at lw_m8 239 rfl) rfl
theorem q1992 : (Jvm.Cond.methodLink "LogGrammarModel" (243 : Nat) ({ cls := "LogGrammarModel", name := "isStretch", desc := "(III)Z" } : Jvm.MethodName)) ∈ lw_all := lw_g (lw_at lw_m9 0 rfl) rfl
theorem q1993 : (Jvm.Cond.privateMethod ({ cls := "LogGrammarModel", name := "isStretch", desc := "(III)Z" } : Jvm.MethodName)) ∈ lw_tbl := lw_at lw_m9 1 rfl
theorem q1994 : (Jvm.Cond.instanceMethod ({ cls := "LogGrammarModel", name := "isStretch", desc := "(III)Z" } : Jvm.MethodName)) ∈ lw_all := lw_g (lw_at lw_m9 2 rfl) rfl
theorem q1995 : (Jvm.Cond.code ({ cls := "LogGrammarModel", name := "isStretch", desc := "(III)Z" } : Jvm.MethodName) prog_13_method_66_code (4 : Nat) (Option.some Jvm.ClassFile.FieldType.boolean)) ∈ lw_all := lw_g (lw_at lw_m9 3 rfl) rfl
theorem q1997 : (Jvm.Cond.instanceMethod ({ cls := "LogGrammarModel", name := "greatest", desc := "(III)I" } : Jvm.MethodName)) ∈ lw_all := lw_g (lw_at lw_m9 5 rfl) rfl
theorem q1998 : (Jvm.Cond.selects "LogGrammarModel" ({ cls := "LogGrammarModel", name := "greatest", desc := "(III)I" } : Jvm.MethodName) ({ cls := "LogGrammarModel", name := "greatest", desc := "(III)I" } : Jvm.MethodName)) ∈ lw_all := lw_g (lw_at lw_m9 6 rfl) rfl
theorem q1999 : (Jvm.Cond.code ({ cls := "LogGrammarModel", name := "greatest", desc := "(III)I" } : Jvm.MethodName) prog_13_method_68_code (6 : Nat) (Option.some Jvm.ClassFile.FieldType.int)) ∈ lw_all := lw_g (lw_at lw_m9 7 rfl) rfl
theorem q2001 : (Jvm.Cond.instanceMethod ({ cls := "LogGrammarModel", name := "greatestByAll", desc := "(III)I" } : Jvm.MethodName)) ∈ lw_all := lw_g (lw_at lw_m9 9 rfl) rfl
theorem q2002 : (Jvm.Cond.selects "LogGrammarModel" ({ cls := "LogGrammarModel", name := "greatestByAll", desc := "(III)I" } : Jvm.MethodName) ({ cls := "LogGrammarModel", name := "greatestByAll", desc := "(III)I" } : Jvm.MethodName)) ∈ lw_all := lw_g (lw_at lw_m9 10 rfl) rfl
theorem q2003 : (Jvm.Cond.code ({ cls := "LogGrammarModel", name := "greatestByAll", desc := "(III)I" } : Jvm.MethodName) prog_13_method_69_code (4 : Nat) (Option.some Jvm.ClassFile.FieldType.int)) ∈ lw_all := lw_g (lw_at lw_m9 11 rfl) rfl
theorem q2004 : (Jvm.Cond.methodLink "LogGrammarModel" (246 : Nat) ({ cls := "LogGrammarModel", name := "greatest", desc := "(III)I" } : Jvm.MethodName)) ∈ lw_all := lw_g (lw_at lw_m9 12 rfl) rfl
theorem q2006 : (Jvm.Cond.instanceMethod ({ cls := "LogGrammarModel", name := "answer", desc := "(II)I" } : Jvm.MethodName)) ∈ lw_all := lw_g (lw_at lw_m9 14 rfl) rfl
theorem q2007 : (Jvm.Cond.selects "LogGrammarModel" ({ cls := "LogGrammarModel", name := "answer", desc := "(II)I" } : Jvm.MethodName) ({ cls := "LogGrammarModel", name := "answer", desc := "(II)I" } : Jvm.MethodName)) ∈ lw_all := lw_g (lw_at lw_m9 15 rfl) rfl
theorem q2008 : (Jvm.Cond.code ({ cls := "LogGrammarModel", name := "answer", desc := "(II)I" } : Jvm.MethodName) prog_13_method_71_code (3 : Nat) (Option.some Jvm.ClassFile.FieldType.int)) ∈ lw_all := lw_g (lw_at lw_m9 16 rfl) rfl
theorem q2009 : (Jvm.Cond.methodLink "LogGrammarModel" (252 : Nat) ({ cls := "LogGrammarModel", name := "asks", desc := "(II)Z" } : Jvm.MethodName)) ∈ lw_all := lw_g (lw_at lw_m9 17 rfl) rfl
theorem q2010 : (Jvm.Cond.privateMethod ({ cls := "LogGrammarModel", name := "asks", desc := "(II)Z" } : Jvm.MethodName)) ∈ lw_tbl := lw_at lw_m9 18 rfl
theorem q2011 : (Jvm.Cond.instanceMethod ({ cls := "LogGrammarModel", name := "asks", desc := "(II)Z" } : Jvm.MethodName)) ∈ lw_all := lw_g (lw_at lw_m9 19 rfl) rfl
theorem q2012 : (Jvm.Cond.code ({ cls := "LogGrammarModel", name := "asks", desc := "(II)Z" } : Jvm.MethodName) prog_13_method_70_code (3 : Nat) (Option.some Jvm.ClassFile.FieldType.boolean)) ∈ lw_all := lw_g (lw_at lw_m9 20 rfl) rfl
theorem q2013 : (Jvm.Cond.methodLink "LogGrammarModel" (249 : Nat) ({ cls := "LogGrammarModel", name := "isMonitor", desc := "(I)Z" } : Jvm.MethodName)) ∈ lw_all := lw_g (lw_at lw_m9 21 rfl) rfl
theorem q2014 : (Jvm.Cond.privateMethod ({ cls := "LogGrammarModel", name := "isMonitor", desc := "(I)Z" } : Jvm.MethodName)) ∈ lw_tbl := lw_at lw_m9 22 rfl
theorem q2015 : (Jvm.Cond.instanceMethod ({ cls := "LogGrammarModel", name := "isMonitor", desc := "(I)Z" } : Jvm.MethodName)) ∈ lw_all := lw_g (lw_at lw_m9 23 rfl) rfl
theorem q2016 : (Jvm.Cond.code ({ cls := "LogGrammarModel", name := "isMonitor", desc := "(I)Z" } : Jvm.MethodName) prog_13_method_10_code (2 : Nat) (Option.some Jvm.ClassFile.FieldType.boolean)) ∈ lw_all := lw_g (lw_at lw_m9 24 rfl) rfl
theorem q2018 : (Jvm.Cond.instanceMethod ({ cls := "LogGrammarModel", name := "answerAnew", desc := "(II)I" } : Jvm.MethodName)) ∈ lw_all := lw_g (lw_at lw_m9 26 rfl) rfl
theorem q2019 : (Jvm.Cond.selects "LogGrammarModel" ({ cls := "LogGrammarModel", name := "answerAnew", desc := "(II)I" } : Jvm.MethodName) ({ cls := "LogGrammarModel", name := "answerAnew", desc := "(II)I" } : Jvm.MethodName)) ∈ lw_all := lw_g (lw_at lw_m9 27 rfl) rfl
theorem q2020 : (Jvm.Cond.code ({ cls := "LogGrammarModel", name := "answerAnew", desc := "(II)I" } : Jvm.MethodName) prog_13_method_72_code (3 : Nat) (Option.some Jvm.ClassFile.FieldType.int)) ∈ lw_all := lw_g (lw_at lw_m9 28 rfl) rfl
theorem q2021 : (Jvm.Cond.methodLink "LogGrammarModel" (255 : Nat) ({ cls := "LogGrammarModel", name := "answer", desc := "(II)I" } : Jvm.MethodName)) ∈ lw_all := lw_g (lw_at lw_m9 29 rfl) rfl
theorem q2023 : (Jvm.Cond.instanceMethod ({ cls := "LogGrammarModel", name := "knownSince", desc := "(II)I" } : Jvm.MethodName)) ∈ lw_all := lw_g (lw_at lw_m9 31 rfl) rfl
theorem q2024 : (Jvm.Cond.selects "LogGrammarModel" ({ cls := "LogGrammarModel", name := "knownSince", desc := "(II)I" } : Jvm.MethodName) ({ cls := "LogGrammarModel", name := "knownSince", desc := "(II)I" } : Jvm.MethodName)) ∈ lw_all := lw_g (lw_at lw_m9 32 rfl) rfl
theorem q2025 : (Jvm.Cond.code ({ cls := "LogGrammarModel", name := "knownSince", desc := "(II)I" } : Jvm.MethodName) prog_13_method_73_code (3 : Nat) (Option.some Jvm.ClassFile.FieldType.int)) ∈ lw_all := lw_g (lw_at lw_m9 33 rfl) rfl
theorem q2027 : (Jvm.Cond.instanceMethod ({ cls := "LogGrammarModel", name := "answers", desc := "(II)I" } : Jvm.MethodName)) ∈ lw_all := lw_g (lw_at lw_m9 35 rfl) rfl
theorem q2028 : (Jvm.Cond.selects "LogGrammarModel" ({ cls := "LogGrammarModel", name := "answers", desc := "(II)I" } : Jvm.MethodName) ({ cls := "LogGrammarModel", name := "answers", desc := "(II)I" } : Jvm.MethodName)) ∈ lw_all := lw_g (lw_at lw_m9 36 rfl) rfl
theorem q2029 : (Jvm.Cond.code ({ cls := "LogGrammarModel", name := "answers", desc := "(II)I" } : Jvm.MethodName) prog_13_method_75_code (5 : Nat) (Option.some Jvm.ClassFile.FieldType.int)) ∈ lw_all := lw_g (lw_at lw_m9 37 rfl) rfl
theorem q2030 : (Jvm.Cond.methodLink "LogGrammarModel" (258 : Nat) ({ cls := "LogGrammarModel", name := "isAnswer", desc := "(I)Z" } : Jvm.MethodName)) ∈ lw_all := lw_g (lw_at lw_m9 38 rfl) rfl
theorem q2031 : (Jvm.Cond.static ({ cls := "LogGrammarModel", name := "isAnswer", desc := "(I)Z" } : Jvm.MethodName)) ∈ lw_all := lw_g (lw_at lw_m9 39 rfl) rfl
theorem q2032 : (Jvm.Cond.code ({ cls := "LogGrammarModel", name := "isAnswer", desc := "(I)Z" } : Jvm.MethodName) prog_13_method_74_code (1 : Nat) (Option.some Jvm.ClassFile.FieldType.boolean)) ∈ lw_all := lw_g (lw_at lw_m9 40 rfl) rfl
theorem q2034 : (Jvm.Cond.instanceMethod ({ cls := "LogGrammarModel", name := "takenBack", desc := "(I)I" } : Jvm.MethodName)) ∈ lw_all := lw_g (lw_at lw_m9 42 rfl) rfl
theorem q2035 : (Jvm.Cond.selects "LogGrammarModel" ({ cls := "LogGrammarModel", name := "takenBack", desc := "(I)I" } : Jvm.MethodName) ({ cls := "LogGrammarModel", name := "takenBack", desc := "(I)I" } : Jvm.MethodName)) ∈ lw_all := lw_g (lw_at lw_m9 43 rfl) rfl
theorem q2036 : (Jvm.Cond.code ({ cls := "LogGrammarModel", name := "takenBack", desc := "(I)I" } : Jvm.MethodName) prog_13_method_76_code (2 : Nat) (Option.some Jvm.ClassFile.FieldType.int)) ∈ lw_all := lw_g (lw_at lw_m9 44 rfl) rfl
theorem q2038 : (Jvm.Cond.instanceMethod ({ cls := "LogGrammarModel", name := "back", desc := "(I)I" } : Jvm.MethodName)) ∈ lw_all := lw_g (lw_at lw_m9 46 rfl) rfl
theorem q2039 : (Jvm.Cond.selects "LogGrammarModel" ({ cls := "LogGrammarModel", name := "back", desc := "(I)I" } : Jvm.MethodName) ({ cls := "LogGrammarModel", name := "back", desc := "(I)I" } : Jvm.MethodName)) ∈ lw_all := lw_g (lw_at lw_m9 47 rfl) rfl
theorem q2040 : (Jvm.Cond.code ({ cls := "LogGrammarModel", name := "back", desc := "(I)I" } : Jvm.MethodName) prog_13_method_81_code (2 : Nat) (Option.some Jvm.ClassFile.FieldType.int)) ∈ lw_all := lw_g (lw_at lw_m9 48 rfl) rfl
theorem q2041 : (Jvm.Cond.methodLink "LogGrammarModel" (271 : Nat) ({ cls := "LogGrammarModel", name := "looksAll", desc := "(IZ)I" } : Jvm.MethodName)) ∈ lw_all := lw_g (lw_at lw_m9 49 rfl) rfl
theorem q2042 : (Jvm.Cond.privateMethod ({ cls := "LogGrammarModel", name := "looksAll", desc := "(IZ)I" } : Jvm.MethodName)) ∈ lw_tbl := lw_at lw_m9 50 rfl
theorem q2043 : (Jvm.Cond.instanceMethod ({ cls := "LogGrammarModel", name := "looksAll", desc := "(IZ)I" } : Jvm.MethodName)) ∈ lw_all := lw_g (lw_at lw_m9 51 rfl) rfl
theorem q2044 : (Jvm.Cond.code ({ cls := "LogGrammarModel", name := "looksAll", desc := "(IZ)I" } : Jvm.MethodName) prog_13_method_80_code (7 : Nat) (Option.some Jvm.ClassFile.FieldType.int)) ∈ lw_all := lw_g (lw_at lw_m9 52 rfl) rfl
theorem q2045 : (Jvm.Cond.methodLink "LogGrammarModel" (264 : Nat) ({ cls := "LogGrammarModel", name := "greater", desc := "(II)I" } : Jvm.MethodName)) ∈ lw_all := lw_g (lw_at lw_m9 53 rfl) rfl
theorem q2046 : (Jvm.Cond.static ({ cls := "LogGrammarModel", name := "greater", desc := "(II)I" } : Jvm.MethodName)) ∈ lw_all := lw_g (lw_at lw_m9 54 rfl) rfl
theorem q2047 : (Jvm.Cond.code ({ cls := "LogGrammarModel", name := "greater", desc := "(II)I" } : Jvm.MethodName) prog_13_method_77_code (2 : Nat) (Option.some Jvm.ClassFile.FieldType.int)) ∈ lw_all := lw_g (lw_at lw_m9 55 rfl) rfl
theorem q2048 : (Jvm.Cond.methodLink "LogGrammarModel" (267 : Nat) ({ cls := "LogGrammarModel", name := "looks", desc := "(IIZ)I" } : Jvm.MethodName)) ∈ lw_all := lw_g (lw_at lw_m9 56 rfl) rfl
theorem q2049 : (Jvm.Cond.privateMethod ({ cls := "LogGrammarModel", name := "looks", desc := "(IIZ)I" } : Jvm.MethodName)) ∈ lw_tbl := lw_at lw_m9 57 rfl
theorem q2050 : (Jvm.Cond.instanceMethod ({ cls := "LogGrammarModel", name := "looks", desc := "(IIZ)I" } : Jvm.MethodName)) ∈ lw_all := lw_g (lw_at lw_m9 58 rfl) rfl
theorem q2051 : (Jvm.Cond.code ({ cls := "LogGrammarModel", name := "looks", desc := "(IIZ)I" } : Jvm.MethodName) prog_13_method_79_code (4 : Nat) (Option.some Jvm.ClassFile.FieldType.int)) ∈ lw_all := lw_g (lw_at lw_m9 59 rfl) rfl
theorem q2052 : (Jvm.Cond.methodLink "LogGrammarModel" (261 : Nat) ({ cls := "LogGrammarModel", name := "together", desc := "(II)I" } : Jvm.MethodName)) ∈ lw_all := lw_g (lw_at lw_m9 60 rfl) rfl
theorem q2053 : (Jvm.Cond.static ({ cls := "LogGrammarModel", name := "together", desc := "(II)I" } : Jvm.MethodName)) ∈ lw_all := lw_g (lw_at lw_m9 61 rfl) rfl
theorem q2054 : (Jvm.Cond.code ({ cls := "LogGrammarModel", name := "together", desc := "(II)I" } : Jvm.MethodName) prog_13_method_78_code (2 : Nat) (Option.some Jvm.ClassFile.FieldType.int)) ∈ lw_all := lw_g (lw_at lw_m9 62 rfl) rfl
theorem q2056 : (Jvm.Cond.instanceMethod ({ cls := "LogGrammarModel", name := "ahead", desc := "(I)I" } : Jvm.MethodName)) ∈ lw_all := lw_g (lw_at lw_m9 64 rfl) rfl
theorem q2057 : (Jvm.Cond.selects "LogGrammarModel" ({ cls := "LogGrammarModel", name := "ahead", desc := "(I)I" } : Jvm.MethodName) ({ cls := "LogGrammarModel", name := "ahead", desc := "(I)I" } : Jvm.MethodName)) ∈ lw_all := lw_g (lw_at lw_m9 65 rfl) rfl
theorem q2058 : (Jvm.Cond.code ({ cls := "LogGrammarModel", name := "ahead", desc := "(I)I" } : Jvm.MethodName) prog_13_method_82_code (2 : Nat) (Option.some Jvm.ClassFile.FieldType.int)) ∈ lw_all := lw_g (lw_at lw_m9 66 rfl) rfl
theorem q2060 : (Jvm.Cond.instanceMethod ({ cls := "LogGrammarModel", name := "parts", desc := "()I" } : Jvm.MethodName)) ∈ lw_all := lw_g (lw_at lw_m9 68 rfl) rfl
theorem q2061 : (Jvm.Cond.selects "LogGrammarModel" ({ cls := "LogGrammarModel", name := "parts", desc := "()I" } : Jvm.MethodName) ({ cls := "LogGrammarModel", name := "parts", desc := "()I" } : Jvm.MethodName)) ∈ lw_all := lw_g (lw_at lw_m9 69 rfl) rfl
theorem q2062 : (Jvm.Cond.code ({ cls := "LogGrammarModel", name := "parts", desc := "()I" } : Jvm.MethodName) prog_13_method_84_code (5 : Nat) (Option.some Jvm.ClassFile.FieldType.int)) ∈ lw_all := lw_g (lw_at lw_m9 70 rfl) rfl
theorem q2063 : (Jvm.Cond.methodLink "LogGrammarModel" (275 : Nat) ({ cls := "LogGrammarModel", name := "areSame", desc := "(II)Z" } : Jvm.MethodName)) ∈ lw_all := lw_g (lw_at lw_m9 71 rfl) rfl
theorem q2064 : (Jvm.Cond.privateMethod ({ cls := "LogGrammarModel", name := "areSame", desc := "(II)Z" } : Jvm.MethodName)) ∈ lw_tbl := lw_at lw_m9 72 rfl
theorem q2065 : (Jvm.Cond.instanceMethod ({ cls := "LogGrammarModel", name := "areSame", desc := "(II)Z" } : Jvm.MethodName)) ∈ lw_all := lw_g (lw_at lw_m9 73 rfl) rfl
theorem q2066 : (Jvm.Cond.code ({ cls := "LogGrammarModel", name := "areSame", desc := "(II)Z" } : Jvm.MethodName) prog_13_method_83_code (5 : Nat) (Option.some Jvm.ClassFile.FieldType.boolean)) ∈ lw_all := lw_g (lw_at lw_m9 74 rfl) rfl
theorem q2068 : (Jvm.Cond.instanceMethod ({ cls := "LogGrammarModel", name := "orders", desc := "()I" } : Jvm.MethodName)) ∈ lw_all := lw_g (lw_at lw_m9 76 rfl) rfl
theorem q2069 : (Jvm.Cond.selects "LogGrammarModel" ({ cls := "LogGrammarModel", name := "orders", desc := "()I" } : Jvm.MethodName) ({ cls := "LogGrammarModel", name := "orders", desc := "()I" } : Jvm.MethodName)) ∈ lw_all := lw_g (lw_at lw_m9 77 rfl) rfl
theorem q2070 : (Jvm.Cond.code ({ cls := "LogGrammarModel", name := "orders", desc := "()I" } : Jvm.MethodName) prog_13_method_89_code (1 : Nat) (Option.some Jvm.ClassFile.FieldType.int)) ∈ lw_all := lw_g (lw_at lw_m9 78 rfl) rfl
theorem q2071 : (Jvm.Cond.methodLink "LogGrammarModel" (294 : Nat) ({ cls := "LogGrammarModel", name := "ordersOf", desc := "()I" } : Jvm.MethodName)) ∈ lw_all := lw_g (lw_at lw_m9 79 rfl) rfl
theorem q2072 : (Jvm.Cond.privateMethod ({ cls := "LogGrammarModel", name := "ordersOf", desc := "()I" } : Jvm.MethodName)) ∈ lw_tbl := lw_at lw_m9 80 rfl
theorem q2073 : (Jvm.Cond.instanceMethod ({ cls := "LogGrammarModel", name := "ordersOf", desc := "()I" } : Jvm.MethodName)) ∈ lw_all := lw_g (lw_at lw_m9 81 rfl) rfl
theorem q2074 : (Jvm.Cond.code ({ cls := "LogGrammarModel", name := "ordersOf", desc := "()I" } : Jvm.MethodName) prog_13_method_88_code (5 : Nat) (Option.some Jvm.ClassFile.FieldType.int)) ∈ lw_all := lw_g (lw_at lw_m9 82 rfl) rfl
theorem q2075 : (Jvm.Cond.methodLink "LogGrammarModel" (280 : Nat) ({ cls := "LogGrammarModel", name := "endOf", desc := "(I)I" } : Jvm.MethodName)) ∈ lw_all := lw_g (lw_at lw_m9 83 rfl) rfl
theorem q2076 : (Jvm.Cond.privateMethod ({ cls := "LogGrammarModel", name := "endOf", desc := "(I)I" } : Jvm.MethodName)) ∈ lw_tbl := lw_at lw_m9 84 rfl
theorem q2077 : (Jvm.Cond.instanceMethod ({ cls := "LogGrammarModel", name := "endOf", desc := "(I)I" } : Jvm.MethodName)) ∈ lw_all := lw_g (lw_at lw_m9 85 rfl) rfl
theorem q2078 : (Jvm.Cond.code ({ cls := "LogGrammarModel", name := "endOf", desc := "(I)I" } : Jvm.MethodName) prog_13_method_87_code (3 : Nat) (Option.some Jvm.ClassFile.FieldType.int)) ∈ lw_all := lw_g (lw_at lw_m9 86 rfl) rfl
theorem q2079 : (Jvm.Cond.methodLink "LogGrammarModel" (283 : Nat) ({ cls := "LogGrammarModel", name := "ofNode", desc := "(III)I" } : Jvm.MethodName)) ∈ lw_all := lw_g (lw_at lw_m9 87 rfl) rfl
theorem q2080 : (Jvm.Cond.privateMethod ({ cls := "LogGrammarModel", name := "ofNode", desc := "(III)I" } : Jvm.MethodName)) ∈ lw_tbl := lw_at lw_m9 88 rfl
theorem q2081 : (Jvm.Cond.instanceMethod ({ cls := "LogGrammarModel", name := "ofNode", desc := "(III)I" } : Jvm.MethodName)) ∈ lw_all := lw_g (lw_at lw_m9 89 rfl) rfl
theorem q2082 : (Jvm.Cond.code ({ cls := "LogGrammarModel", name := "ofNode", desc := "(III)I" } : Jvm.MethodName) prog_13_method_86_code (6 : Nat) (Option.some Jvm.ClassFile.FieldType.int)) ∈ lw_all := lw_g (lw_at lw_m9 90 rfl) rfl
theorem q2083 : (Jvm.Cond.methodLink "LogGrammarModel" (286 : Nat) ({ cls := "LogGrammarModel", name := "mixed", desc := "(IIII)J" } : Jvm.MethodName)) ∈ lw_all := lw_g (lw_at lw_m9 91 rfl) rfl
theorem q2084 : (Jvm.Cond.static ({ cls := "LogGrammarModel", name := "mixed", desc := "(IIII)J" } : Jvm.MethodName)) ∈ lw_all := lw_g (lw_at lw_m9 92 rfl) rfl
theorem q2085 : (Jvm.Cond.code ({ cls := "LogGrammarModel", name := "mixed", desc := "(IIII)J" } : Jvm.MethodName) prog_13_method_85_code (9 : Nat) (Option.some Jvm.ClassFile.FieldType.long)) ∈ lw_all := lw_g (lw_at lw_m9 93 rfl) rfl
theorem q2086 : (Jvm.Cond.constantLong "LogGrammarModel" (278 : Nat) (1000000 : Int64)) ∈ lw_all := lw_g (lw_at lw_m9 94 rfl) rfl
theorem q2087 : (Jvm.Cond.constantLong "LogGrammarModel" (290 : Nat) (120 : Int64)) ∈ lw_all := lw_g (lw_at lw_m9 95 rfl) rfl
theorem q2088 : (Jvm.Cond.constantLong "LogGrammarModel" (292 : Nat) (121 : Int64)) ∈ lw_all := lw_g (lw_at lw_m9 96 rfl) rfl
theorem q2090 : (Jvm.Cond.instanceMethod ({ cls := "LogGrammarModel", name := "overOrders", desc := "(III)I" } : Jvm.MethodName)) ∈ lw_all := lw_g (lw_at lw_m9 98 rfl) rfl
theorem q2091 : (Jvm.Cond.selects "LogGrammarModel" ({ cls := "LogGrammarModel", name := "overOrders", desc := "(III)I" } : Jvm.MethodName) ({ cls := "LogGrammarModel", name := "overOrders", desc := "(III)I" } : Jvm.MethodName)) ∈ lw_all := lw_g (lw_at lw_m9 99 rfl) rfl
theorem q2092 : (Jvm.Cond.code ({ cls := "LogGrammarModel", name := "overOrders", desc := "(III)I" } : Jvm.MethodName) prog_13_method_91_code (7 : Nat) (Option.some Jvm.ClassFile.FieldType.int)) ∈ lw_all := lw_g (lw_at lw_m9 100 rfl) rfl
theorem q2093 : (Jvm.Cond.methodLink "LogGrammarModel" (297 : Nat) ({ cls := "LogGrammarModel", name := "laysOrder", desc := "(I)V" } : Jvm.MethodName)) ∈ lw_all := lw_g (lw_at lw_m9 101 rfl) rfl
theorem q2094 : (Jvm.Cond.privateMethod ({ cls := "LogGrammarModel", name := "laysOrder", desc := "(I)V" } : Jvm.MethodName)) ∈ lw_tbl := lw_at lw_m9 102 rfl
theorem q2095 : (Jvm.Cond.instanceMethod ({ cls := "LogGrammarModel", name := "laysOrder", desc := "(I)V" } : Jvm.MethodName)) ∈ lw_all := lw_g (lw_at lw_m9 103 rfl) rfl
theorem q2096 : (Jvm.Cond.code ({ cls := "LogGrammarModel", name := "laysOrder", desc := "(I)V" } : Jvm.MethodName) prog_13_method_90_code (19 : Nat) (Option.none : Option Jvm.ClassFile.FieldType)) ∈ lw_all := lw_g (lw_at lw_m9 104 rfl) rfl
theorem q2098 : (Jvm.Cond.instanceMethod ({ cls := "LogGrammarModel", name := "explanation", desc := "(II)I" } : Jvm.MethodName)) ∈ lw_all := lw_g (lw_at lw_m9 106 rfl) rfl
theorem q2099 : (Jvm.Cond.selects "LogGrammarModel" ({ cls := "LogGrammarModel", name := "explanation", desc := "(II)I" } : Jvm.MethodName) ({ cls := "LogGrammarModel", name := "explanation", desc := "(II)I" } : Jvm.MethodName)) ∈ lw_all := lw_g (lw_at lw_m9 107 rfl) rfl
theorem q2100 : (Jvm.Cond.code ({ cls := "LogGrammarModel", name := "explanation", desc := "(II)I" } : Jvm.MethodName) prog_13_method_100_code (3 : Nat) (Option.some Jvm.ClassFile.FieldType.int)) ∈ lw_all := lw_g (lw_at lw_m9 108 rfl) rfl
theorem q2101 : (Jvm.Cond.methodLink "LogGrammarModel" (318 : Nat) ({ cls := "LogGrammarModel", name := "tellsLeast", desc := "(IIZ)I" } : Jvm.MethodName)) ∈ lw_all := lw_g (lw_at lw_m9 109 rfl) rfl
theorem q2102 : (Jvm.Cond.privateMethod ({ cls := "LogGrammarModel", name := "tellsLeast", desc := "(IIZ)I" } : Jvm.MethodName)) ∈ lw_tbl := lw_at lw_m9 110 rfl
theorem q2103 : (Jvm.Cond.instanceMethod ({ cls := "LogGrammarModel", name := "tellsLeast", desc := "(IIZ)I" } : Jvm.MethodName)) ∈ lw_all := lw_g (lw_at lw_m9 111 rfl) rfl
theorem q2104 : (Jvm.Cond.code ({ cls := "LogGrammarModel", name := "tellsLeast", desc := "(IIZ)I" } : Jvm.MethodName) prog_13_method_98_code (5 : Nat) (Option.some Jvm.ClassFile.FieldType.int)) ∈ lw_all := lw_g (lw_at lw_m9 112 rfl) rfl
theorem q2105 : (Jvm.Cond.methodLink "LogGrammarModel" (312 : Nat) ({ cls := "LogGrammarModel", name := "least", desc := "(IIZ)I" } : Jvm.MethodName)) ∈ lw_all := lw_g (lw_at lw_m9 113 rfl) rfl
theorem q2106 : (Jvm.Cond.privateMethod ({ cls := "LogGrammarModel", name := "least", desc := "(IIZ)I" } : Jvm.MethodName)) ∈ lw_tbl := lw_at lw_m9 114 rfl
theorem q2107 : (Jvm.Cond.instanceMethod ({ cls := "LogGrammarModel", name := "least", desc := "(IIZ)I" } : Jvm.MethodName)) ∈ lw_all := lw_g (lw_at lw_m9 115 rfl) rfl
theorem q2108 : (Jvm.Cond.code ({ cls := "LogGrammarModel", name := "least", desc := "(IIZ)I" } : Jvm.MethodName) prog_13_method_97_code (12 : Nat) (Option.some Jvm.ClassFile.FieldType.int)) ∈ lw_all := lw_g (lw_at lw_m9 116 rfl) rfl
theorem q2109 : (Jvm.Cond.methodLink "LogGrammarModel" (300 : Nat) ({ cls := "LogGrammarModel", name := "placeOf", desc := "(I)I" } : Jvm.MethodName)) ∈ lw_all := lw_g (lw_at lw_m9 117 rfl) rfl
theorem q2110 : (Jvm.Cond.privateMethod ({ cls := "LogGrammarModel", name := "placeOf", desc := "(I)I" } : Jvm.MethodName)) ∈ lw_tbl := lw_at lw_m9 118 rfl
theorem q2111 : (Jvm.Cond.instanceMethod ({ cls := "LogGrammarModel", name := "placeOf", desc := "(I)I" } : Jvm.MethodName)) ∈ lw_all := lw_g (lw_at lw_m9 119 rfl) rfl
theorem q2112 : (Jvm.Cond.code ({ cls := "LogGrammarModel", name := "placeOf", desc := "(I)I" } : Jvm.MethodName) prog_13_method_96_code (3 : Nat) (Option.some Jvm.ClassFile.FieldType.int)) ∈ lw_all := lw_g (lw_at lw_m9 120 rfl) rfl
theorem q2113 : (Jvm.Cond.methodLink "LogGrammarModel" (303 : Nat) ({ cls := "LogGrammarModel", name := "isLess", desc := "(II)Z" } : Jvm.MethodName)) ∈ lw_all := lw_g (lw_at lw_m9 121 rfl) rfl
theorem q2114 : (Jvm.Cond.static ({ cls := "LogGrammarModel", name := "isLess", desc := "(II)Z" } : Jvm.MethodName)) ∈ lw_all := lw_g (lw_at lw_m9 122 rfl) rfl
theorem q2115 : (Jvm.Cond.code ({ cls := "LogGrammarModel", name := "isLess", desc := "(II)Z" } : Jvm.MethodName) prog_13_method_94_code (3 : Nat) (Option.some Jvm.ClassFile.FieldType.boolean)) ∈ lw_all := lw_g (lw_at lw_m9 123 rfl) rfl
theorem q2116 : (Jvm.Cond.methodLink "LogGrammarModel" (306 : Nat) ({ cls := "LogGrammarModel", name := "isFalseWith", desc := "(III)Z" } : Jvm.MethodName)) ∈ lw_all := lw_g (lw_at lw_m9 124 rfl) rfl
theorem q2117 : (Jvm.Cond.privateMethod ({ cls := "LogGrammarModel", name := "isFalseWith", desc := "(III)Z" } : Jvm.MethodName)) ∈ lw_tbl := lw_at lw_m9 125 rfl
theorem q2118 : (Jvm.Cond.instanceMethod ({ cls := "LogGrammarModel", name := "isFalseWith", desc := "(III)Z" } : Jvm.MethodName)) ∈ lw_all := lw_g (lw_at lw_m9 126 rfl) rfl
theorem q2119 : (Jvm.Cond.code ({ cls := "LogGrammarModel", name := "isFalseWith", desc := "(III)Z" } : Jvm.MethodName) prog_13_method_92_code (5 : Nat) (Option.some Jvm.ClassFile.FieldType.boolean)) ∈ lw_all := lw_g (lw_at lw_m9 127 rfl) rfl
theorem q2120 : (Jvm.Cond.methodLink "LogGrammarModel" (309 : Nat) ({ cls := "LogGrammarModel", name := "nextSet", desc := "(I)I" } : Jvm.MethodName)) ∈ lw_all := lw_g (lw_at lw_m9 128 rfl) rfl
theorem q2121 : (Jvm.Cond.static ({ cls := "LogGrammarModel", name := "nextSet", desc := "(I)I" } : Jvm.MethodName)) ∈ lw_all := lw_g (lw_at lw_m9 129 rfl) rfl
theorem q2122 : (Jvm.Cond.code ({ cls := "LogGrammarModel", name := "nextSet", desc := "(I)I" } : Jvm.MethodName) prog_13_method_95_code (3 : Nat) (Option.some Jvm.ClassFile.FieldType.int)) ∈ lw_all := lw_g (lw_at lw_m9 130 rfl) rfl
theorem q2123 : (Jvm.Cond.methodLink "LogGrammarModel" (315 : Nat) ({ cls := "LogGrammarModel", name := "ones", desc := "(I)I" } : Jvm.MethodName)) ∈ lw_all := lw_g (lw_at lw_m9 131 rfl) rfl
theorem q2124 : (Jvm.Cond.static ({ cls := "LogGrammarModel", name := "ones", desc := "(I)I" } : Jvm.MethodName)) ∈ lw_all := lw_g (lw_at lw_m9 132 rfl) rfl
theorem q2125 : (Jvm.Cond.code ({ cls := "LogGrammarModel", name := "ones", desc := "(I)I" } : Jvm.MethodName) prog_13_method_93_code (3 : Nat) (Option.some Jvm.ClassFile.FieldType.int)) ∈ lw_all := lw_g (lw_at lw_m9 133 rfl) rfl
theorem q2127 : (Jvm.Cond.instanceMethod ({ cls := "LogGrammarModel", name := "explainedBy", desc := "(III)I" } : Jvm.MethodName)) ∈ lw_all := lw_g (lw_at lw_m9 135 rfl) rfl
theorem q2128 : (Jvm.Cond.selects "LogGrammarModel" ({ cls := "LogGrammarModel", name := "explainedBy", desc := "(III)I" } : Jvm.MethodName) ({ cls := "LogGrammarModel", name := "explainedBy", desc := "(III)I" } : Jvm.MethodName)) ∈ lw_all := lw_g (lw_at lw_m9 136 rfl) rfl
theorem q2129 : (Jvm.Cond.code ({ cls := "LogGrammarModel", name := "explainedBy", desc := "(III)I" } : Jvm.MethodName) prog_13_method_101_code (4 : Nat) (Option.some Jvm.ClassFile.FieldType.int)) ∈ lw_all := lw_g (lw_at lw_m9 137 rfl) rfl
theorem q2130 : (Jvm.Cond.methodLink "LogGrammarModel" (321 : Nat) ({ cls := "LogGrammarModel", name := "tellsOne", desc := "(IIIZ)I" } : Jvm.MethodName)) ∈ lw_all := lw_g (lw_at lw_m9 138 rfl) rfl
theorem q2131 : (Jvm.Cond.privateMethod ({ cls := "LogGrammarModel", name := "tellsOne", desc := "(IIIZ)I" } : Jvm.MethodName)) ∈ lw_tbl := lw_at lw_m9 139 rfl
theorem q2132 : (Jvm.Cond.instanceMethod ({ cls := "LogGrammarModel", name := "tellsOne", desc := "(IIIZ)I" } : Jvm.MethodName)) ∈ lw_all := lw_g (lw_at lw_m9 140 rfl) rfl
theorem q2133 : (Jvm.Cond.code ({ cls := "LogGrammarModel", name := "tellsOne", desc := "(IIIZ)I" } : Jvm.MethodName) prog_13_method_99_code (8 : Nat) (Option.some Jvm.ClassFile.FieldType.int)) ∈ lw_all := lw_g (lw_at lw_m9 141 rfl) rfl
theorem q2135 : (Jvm.Cond.instanceMethod ({ cls := "LogGrammarModel", name := "mend", desc := "(II)I" } : Jvm.MethodName)) ∈ lw_all := lw_g (lw_at lw_m9 143 rfl) rfl
theorem q2136 : (Jvm.Cond.selects "LogGrammarModel" ({ cls := "LogGrammarModel", name := "mend", desc := "(II)I" } : Jvm.MethodName) ({ cls := "LogGrammarModel", name := "mend", desc := "(II)I" } : Jvm.MethodName)) ∈ lw_all := lw_g (lw_at lw_m9 144 rfl) rfl
theorem q2137 : (Jvm.Cond.code ({ cls := "LogGrammarModel", name := "mend", desc := "(II)I" } : Jvm.MethodName) prog_13_method_102_code (3 : Nat) (Option.some Jvm.ClassFile.FieldType.int)) ∈ lw_all := lw_g (lw_at lw_m9 145 rfl) rfl
theorem q2139 : (Jvm.Cond.instanceMethod ({ cls := "LogGrammarModel", name := "mendedBy", desc := "(III)I" } : Jvm.MethodName)) ∈ lw_all := lw_g (lw_at lw_m9 147 rfl) rfl
theorem q2140 : (Jvm.Cond.selects "LogGrammarModel" ({ cls := "LogGrammarModel", name := "mendedBy", desc := "(III)I" } : Jvm.MethodName) ({ cls := "LogGrammarModel", name := "mendedBy", desc := "(III)I" } : Jvm.MethodName)) ∈ lw_all := lw_g (lw_at lw_m9 148 rfl) rfl
theorem q2141 : (Jvm.Cond.code ({ cls := "LogGrammarModel", name := "mendedBy", desc := "(III)I" } : Jvm.MethodName) prog_13_method_103_code (4 : Nat) (Option.some Jvm.ClassFile.FieldType.int)) ∈ lw_all := lw_g (lw_at lw_m9 149 rfl) rfl
theorem q2158 : (Jvm.Cond.castable "LogGrammarModel" "java/lang/Object") ∈ lw_tbl := lw_at lw_m9 166 rfl
theorem in_X3 : ∀ w ∈ wsX30, w ∈ lw_all := lw_in wsX30 [1672, 1674, 1676, 1678, 1680, 1682, 1684, 1686, 1688, 1690, 1692, 1694, 1696, 1698, 1700, 1702, 1704, 1706, 1708, 1710, 1712, 1714, 1716, 1718, 1720, 1722, 1724, 1726, 1728, 1730, 1732, 1734, 1736, 1738, 1740] (by decide +kernel) (by decide +kernel)
