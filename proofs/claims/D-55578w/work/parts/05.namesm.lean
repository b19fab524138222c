/-! ChantRulesModel -/
set_option maxRecDepth 100000
def RX5 : String := "ChantRulesModel"
def TX5 : u_T := fun k => match k with
  | 0 => ("ChantRulesModel", "fails", "I", false)
  | 1 => ("ChantRulesModel", "changes", "I", false)
  | 2 => ("ChantRulesModel", "why", "I", false)
  | 3 => ("ChantRulesModel", "detail", "I", false)
  | 4 => ("ChantRulesModel", "behindWhy", "I", false)
  | 5 => ("ChantRulesModel", "behindDetail", "I", false)
  | 6 => ("ChantRulesModel", "isSaved", "Z", false)
  | 7 => ("ChantRulesModel", "v", "[I", true)
  | 8 => ("ChantRulesModel", "before", "[I", true)
  | 9 => ("ChantRulesModel", "saved", "[I", true)
  | 10 => ("ChantRulesModel", "past", "[I", true)
  | 11 => ("ChantRulesModel", "from", "[I", true)
  | 12 => ("ChantRulesModel", "to", "[I", true)
  | 13 => ("ChantRulesModel", "hears", "[I", true)
  | 14 => ("ChantRulesModel", "sings", "[I", true)
  | 15 => ("ChantRulesModel", "weight", "[I", true)
  | 16 => ("ChantRulesModel", "endOf", "[I", true)
  | 17 => ("ChantRulesModel", "many", "I", false)
  | 18 => ("ChantRulesModel", "states", "I", false)
  | 19 => ("ChantRulesModel", "reached", "[I", true)
  | 20 => ("ChantRulesModel", "useful", "[I", true)
  | 21 => ("ChantRulesModel", "text", "[I", true)
  | 22 => ("ChantRulesModel", "least", "[I", true)
  | 23 => ("ChantRulesModel", "letters", "[I", true)
  | 24 => ("ChantRulesModel", "isDone", "[I", true)
  | 25 => ("ChantRulesModel", "song", "[I", true)
  | 26 => ("ChantRulesModel", "textN", "I", false)
  | 27 => ("ChantRulesModel", "bestWeight", "I", false)
  | 28 => ("ChantRulesModel", "best", "I", false)
  | 29 => ("ChantRulesModel", "line", "[I", true)
  | 30 => ("ChantRulesModel", "lineN", "I", false)
  | 31 => ("ChantRulesModel", "far", "[I", true)
  | 32 => ("ChantRulesModel", "told", "[I", true)
  | 33 => ("ChantRulesModel", "here", "I", false)
  | 34 => ("ChantRulesModel", "end", "I", false)
  | 35 => ("ChantRulesModel", "isWrong", "Z", false)
  | _ => ("ChantRulesModel", "isDoing", "Z", false)
def tyX5 : Nat → FieldType := fun k => match k with
  | 0 => .int
  | 1 => .int
  | 2 => .int
  | 3 => .int
  | 4 => .int
  | 5 => .int
  | 6 => .boolean
  | 7 => .array .int
  | 8 => .array .int
  | 9 => .array .int
  | 10 => .array .int
  | 11 => .array .int
  | 12 => .array .int
  | 13 => .array .int
  | 14 => .array .int
  | 15 => .array .int
  | 16 => .array .int
  | 17 => .int
  | 18 => .int
  | 19 => .array .int
  | 20 => .array .int
  | 21 => .array .int
  | 22 => .array .int
  | 23 => .array .int
  | 24 => .array .int
  | 25 => .array .int
  | 26 => .int
  | 27 => .int
  | 28 => .int
  | 29 => .array .int
  | 30 => .int
  | 31 => .array .int
  | 32 => .array .int
  | 33 => .int
  | 34 => .int
  | 35 => .boolean
  | _ => .boolean
abbrev wsX50 : List Cond := u_ws RX5 TX5 37
set_option maxRecDepth 100000 in
theorem nmX5 : ∀ a, a < 37 → ∀ b, b < 37 → a ≠ b → (TX5 a).2.1 ≠ (TX5 b).2.1 := by decide +kernel
set_option maxRecDepth 100000 in
theorem tyX5_ok : ∀ k, k < 37 → parseFieldDescriptor (TX5 k).2.2.1 = some (tyX5 k) := by decide +kernel
abbrev cX5_init : ByteArray := prog_19_method_1_code
def yX5_init : MethodName := ⟨RX5, "<init>", "()V"⟩
def dkwX5_init_9 : List UInt8 := [2, 79, 132, 1, 1, 167, 255, 238, 177]
abbrev dktX5_init_9 : List UInt8 := dkwX5_init_9 ++ []
def dkwX5_init_8 : List UInt8 := [4, 79, 42, 180, 0, 7, 4, 4, 79, 3, 60, 27, 16, 10, 162, 0, 18, 42, 180, 0, 7, 7, 27, 96]
abbrev dktX5_init_8 : List UInt8 := dkwX5_init_8 ++ dktX5_init_9
def dkwX5_init_7 : List UInt8 := [181, 0, 62, 42, 16, 25, 188, 10, 181, 0, 65, 42, 16, 6, 188, 10, 181, 0, 68, 42, 180, 0, 7, 3]
abbrev dktX5_init_7 : List UInt8 := dkwX5_init_7 ++ dktX5_init_8
def dkwX5_init_6 : List UInt8 := [17, 0, 225, 188, 10, 181, 0, 55, 42, 18, 58, 188, 10, 181, 0, 59, 42, 17, 1, 44, 188, 10]
abbrev dktX5_init_6 : List UInt8 := dkwX5_init_6 ++ dktX5_init_7
def dkwX5_init_5 : List UInt8 := [181, 0, 46, 42, 17, 0, 225, 188, 10, 181, 0, 49, 42, 17, 0, 225, 188, 10, 181, 0, 52, 42]
abbrev dktX5_init_5 : List UInt8 := dkwX5_init_5 ++ dktX5_init_6
def dkwX5_init_4 : List UInt8 := [181, 0, 37, 42, 16, 25, 188, 10, 181, 0, 40, 42, 16, 25, 188, 10, 181, 0, 43, 42, 16, 60, 188, 10]
abbrev dktX5_init_4 : List UInt8 := dkwX5_init_4 ++ dktX5_init_5
def dkwX5_init_3 : List UInt8 := [17, 1, 44, 188, 10, 181, 0, 31, 42, 17, 1, 44, 188, 10, 181, 0, 34, 42, 16, 25, 188, 10]
abbrev dktX5_init_3 : List UInt8 := dkwX5_init_3 ++ dktX5_init_4
def dkwX5_init_2 : List UInt8 := [181, 0, 22, 42, 17, 1, 44, 188, 10, 181, 0, 25, 42, 17, 1, 44, 188, 10, 181, 0, 28, 42]
abbrev dktX5_init_2 : List UInt8 := dkwX5_init_2 ++ dktX5_init_3
def dkwX5_init_1 : List UInt8 := [17, 0, 137, 188, 10, 181, 0, 16, 42, 17, 4, 72, 188, 10, 181, 0, 19, 42, 17, 1, 44, 188, 10]
abbrev dktX5_init_1 : List UInt8 := dkwX5_init_1 ++ dktX5_init_2
def dkwX5_init_0 : List UInt8 := [42, 183, 0, 1, 42, 17, 0, 137, 188, 10, 181, 0, 7, 42, 17, 0, 137, 188, 10, 181, 0, 13, 42]
abbrev dktX5_init_0 : List UInt8 := dkwX5_init_0 ++ dktX5_init_1
theorem dksX5_init_0 : cX5_init.data.toList.drop 0 = dktX5_init_0 := by decide +kernel
theorem dksX5_init_1 : cX5_init.data.toList.drop 23 = dktX5_init_1 := dk_seg dksX5_init_0 23 rfl rfl
theorem dksX5_init_2 : cX5_init.data.toList.drop 46 = dktX5_init_2 := dk_seg dksX5_init_1 23 rfl rfl
theorem dksX5_init_3 : cX5_init.data.toList.drop 68 = dktX5_init_3 := dk_seg dksX5_init_2 22 rfl rfl
theorem dksX5_init_4 : cX5_init.data.toList.drop 90 = dktX5_init_4 := dk_seg dksX5_init_3 22 rfl rfl
theorem dksX5_init_5 : cX5_init.data.toList.drop 114 = dktX5_init_5 := dk_seg dksX5_init_4 24 rfl rfl
theorem dksX5_init_6 : cX5_init.data.toList.drop 136 = dktX5_init_6 := dk_seg dksX5_init_5 22 rfl rfl
theorem dksX5_init_7 : cX5_init.data.toList.drop 158 = dktX5_init_7 := dk_seg dksX5_init_6 22 rfl rfl
theorem dksX5_init_8 : cX5_init.data.toList.drop 182 = dktX5_init_8 := dk_seg dksX5_init_7 24 rfl rfl
theorem dksX5_init_9 : cX5_init.data.toList.drop 206 = dktX5_init_9 := dk_seg dksX5_init_8 24 rfl rfl
theorem dX5_init_0 : decode cX5_init 0 = .ok (.aload_n 0, 1) := dk_42 (dk_at dksX5_init_0 0 rfl rfl)
theorem dX5_init_1 : decode cX5_init 1 = .ok (.invokespecial 1, 3) := dk_183 0 1 (dk_at dksX5_init_0 1 rfl rfl)
theorem dX5_init_4 : decode cX5_init 4 = .ok (.aload_n 0, 1) := dk_42 (dk_at dksX5_init_0 4 rfl rfl)
theorem dX5_init_5 : decode cX5_init 5 = .ok (.sipush 137, 3) := dk_17 0 137 (dk_at dksX5_init_0 5 rfl rfl)
theorem dX5_init_8 : decode cX5_init 8 = .ok (.newarray .int, 2) := dk_188_10 (dk_at dksX5_init_0 8 rfl rfl)
theorem dX5_init_10 : decode cX5_init 10 = .ok (.putfield 7, 3) := dk_181 0 7 (dk_at dksX5_init_0 10 rfl rfl)
theorem dX5_init_13 : decode cX5_init 13 = .ok (.aload_n 0, 1) := dk_42 (dk_at dksX5_init_0 13 rfl rfl)
theorem dX5_init_14 : decode cX5_init 14 = .ok (.sipush 137, 3) := dk_17 0 137 (dk_at dksX5_init_0 14 rfl rfl)
theorem dX5_init_17 : decode cX5_init 17 = .ok (.newarray .int, 2) := dk_188_10 (dk_at dksX5_init_0 17 rfl rfl)
theorem dX5_init_19 : decode cX5_init 19 = .ok (.putfield 13, 3) := dk_181 0 13 (dk_at dksX5_init_0 19 rfl rfl)
theorem dX5_init_22 : decode cX5_init 22 = .ok (.aload_n 0, 1) := dk_42 (dk_at dksX5_init_0 22 rfl rfl)
theorem dX5_init_23 : decode cX5_init 23 = .ok (.sipush 137, 3) := dk_17 0 137 (dk_at dksX5_init_1 0 rfl rfl)
theorem dX5_init_26 : decode cX5_init 26 = .ok (.newarray .int, 2) := dk_188_10 (dk_at dksX5_init_1 3 rfl rfl)
theorem dX5_init_28 : decode cX5_init 28 = .ok (.putfield 16, 3) := dk_181 0 16 (dk_at dksX5_init_1 5 rfl rfl)
theorem dX5_init_31 : decode cX5_init 31 = .ok (.aload_n 0, 1) := dk_42 (dk_at dksX5_init_1 8 rfl rfl)
theorem dX5_init_32 : decode cX5_init 32 = .ok (.sipush 1096, 3) := dk_17 4 72 (dk_at dksX5_init_1 9 rfl rfl)
theorem dX5_init_35 : decode cX5_init 35 = .ok (.newarray .int, 2) := dk_188_10 (dk_at dksX5_init_1 12 rfl rfl)
theorem dX5_init_37 : decode cX5_init 37 = .ok (.putfield 19, 3) := dk_181 0 19 (dk_at dksX5_init_1 14 rfl rfl)
theorem dX5_init_40 : decode cX5_init 40 = .ok (.aload_n 0, 1) := dk_42 (dk_at dksX5_init_1 17 rfl rfl)
theorem dX5_init_41 : decode cX5_init 41 = .ok (.sipush 300, 3) := dk_17 1 44 (dk_at dksX5_init_1 18 rfl rfl)
theorem dX5_init_44 : decode cX5_init 44 = .ok (.newarray .int, 2) := dk_188_10 (dk_at dksX5_init_1 21 rfl rfl)
theorem dX5_init_46 : decode cX5_init 46 = .ok (.putfield 22, 3) := dk_181 0 22 (dk_at dksX5_init_2 0 rfl rfl)
theorem dX5_init_49 : decode cX5_init 49 = .ok (.aload_n 0, 1) := dk_42 (dk_at dksX5_init_2 3 rfl rfl)
theorem dX5_init_50 : decode cX5_init 50 = .ok (.sipush 300, 3) := dk_17 1 44 (dk_at dksX5_init_2 4 rfl rfl)
theorem dX5_init_53 : decode cX5_init 53 = .ok (.newarray .int, 2) := dk_188_10 (dk_at dksX5_init_2 7 rfl rfl)
theorem dX5_init_55 : decode cX5_init 55 = .ok (.putfield 25, 3) := dk_181 0 25 (dk_at dksX5_init_2 9 rfl rfl)
theorem dX5_init_58 : decode cX5_init 58 = .ok (.aload_n 0, 1) := dk_42 (dk_at dksX5_init_2 12 rfl rfl)
theorem dX5_init_59 : decode cX5_init 59 = .ok (.sipush 300, 3) := dk_17 1 44 (dk_at dksX5_init_2 13 rfl rfl)
theorem dX5_init_62 : decode cX5_init 62 = .ok (.newarray .int, 2) := dk_188_10 (dk_at dksX5_init_2 16 rfl rfl)
theorem dX5_init_64 : decode cX5_init 64 = .ok (.putfield 28, 3) := dk_181 0 28 (dk_at dksX5_init_2 18 rfl rfl)
theorem dX5_init_67 : decode cX5_init 67 = .ok (.aload_n 0, 1) := dk_42 (dk_at dksX5_init_2 21 rfl rfl)
theorem dX5_init_68 : decode cX5_init 68 = .ok (.sipush 300, 3) := dk_17 1 44 (dk_at dksX5_init_3 0 rfl rfl)
theorem dX5_init_71 : decode cX5_init 71 = .ok (.newarray .int, 2) := dk_188_10 (dk_at dksX5_init_3 3 rfl rfl)
theorem dX5_init_73 : decode cX5_init 73 = .ok (.putfield 31, 3) := dk_181 0 31 (dk_at dksX5_init_3 5 rfl rfl)
theorem dX5_init_76 : decode cX5_init 76 = .ok (.aload_n 0, 1) := dk_42 (dk_at dksX5_init_3 8 rfl rfl)
theorem dX5_init_77 : decode cX5_init 77 = .ok (.sipush 300, 3) := dk_17 1 44 (dk_at dksX5_init_3 9 rfl rfl)
theorem dX5_init_80 : decode cX5_init 80 = .ok (.newarray .int, 2) := dk_188_10 (dk_at dksX5_init_3 12 rfl rfl)
theorem dX5_init_82 : decode cX5_init 82 = .ok (.putfield 34, 3) := dk_181 0 34 (dk_at dksX5_init_3 14 rfl rfl)
theorem dX5_init_85 : decode cX5_init 85 = .ok (.aload_n 0, 1) := dk_42 (dk_at dksX5_init_3 17 rfl rfl)
theorem dX5_init_86 : decode cX5_init 86 = .ok (.bipush 25, 2) := dk_16 25 (dk_at dksX5_init_3 18 rfl rfl)
theorem dX5_init_88 : decode cX5_init 88 = .ok (.newarray .int, 2) := dk_188_10 (dk_at dksX5_init_3 20 rfl rfl)
theorem dX5_init_90 : decode cX5_init 90 = .ok (.putfield 37, 3) := dk_181 0 37 (dk_at dksX5_init_4 0 rfl rfl)
theorem dX5_init_93 : decode cX5_init 93 = .ok (.aload_n 0, 1) := dk_42 (dk_at dksX5_init_4 3 rfl rfl)
theorem dX5_init_94 : decode cX5_init 94 = .ok (.bipush 25, 2) := dk_16 25 (dk_at dksX5_init_4 4 rfl rfl)
theorem dX5_init_96 : decode cX5_init 96 = .ok (.newarray .int, 2) := dk_188_10 (dk_at dksX5_init_4 6 rfl rfl)
theorem dX5_init_98 : decode cX5_init 98 = .ok (.putfield 40, 3) := dk_181 0 40 (dk_at dksX5_init_4 8 rfl rfl)
theorem dX5_init_101 : decode cX5_init 101 = .ok (.aload_n 0, 1) := dk_42 (dk_at dksX5_init_4 11 rfl rfl)
theorem dX5_init_102 : decode cX5_init 102 = .ok (.bipush 25, 2) := dk_16 25 (dk_at dksX5_init_4 12 rfl rfl)
theorem dX5_init_104 : decode cX5_init 104 = .ok (.newarray .int, 2) := dk_188_10 (dk_at dksX5_init_4 14 rfl rfl)
theorem dX5_init_106 : decode cX5_init 106 = .ok (.putfield 43, 3) := dk_181 0 43 (dk_at dksX5_init_4 16 rfl rfl)
theorem dX5_init_109 : decode cX5_init 109 = .ok (.aload_n 0, 1) := dk_42 (dk_at dksX5_init_4 19 rfl rfl)
theorem dX5_init_110 : decode cX5_init 110 = .ok (.bipush 60, 2) := dk_16 60 (dk_at dksX5_init_4 20 rfl rfl)
theorem dX5_init_112 : decode cX5_init 112 = .ok (.newarray .int, 2) := dk_188_10 (dk_at dksX5_init_4 22 rfl rfl)
theorem dX5_init_114 : decode cX5_init 114 = .ok (.putfield 46, 3) := dk_181 0 46 (dk_at dksX5_init_5 0 rfl rfl)
theorem dX5_init_117 : decode cX5_init 117 = .ok (.aload_n 0, 1) := dk_42 (dk_at dksX5_init_5 3 rfl rfl)
theorem dX5_init_118 : decode cX5_init 118 = .ok (.sipush 225, 3) := dk_17 0 225 (dk_at dksX5_init_5 4 rfl rfl)
theorem dX5_init_121 : decode cX5_init 121 = .ok (.newarray .int, 2) := dk_188_10 (dk_at dksX5_init_5 7 rfl rfl)
theorem dX5_init_123 : decode cX5_init 123 = .ok (.putfield 49, 3) := dk_181 0 49 (dk_at dksX5_init_5 9 rfl rfl)
theorem dX5_init_126 : decode cX5_init 126 = .ok (.aload_n 0, 1) := dk_42 (dk_at dksX5_init_5 12 rfl rfl)
theorem dX5_init_127 : decode cX5_init 127 = .ok (.sipush 225, 3) := dk_17 0 225 (dk_at dksX5_init_5 13 rfl rfl)
theorem dX5_init_130 : decode cX5_init 130 = .ok (.newarray .int, 2) := dk_188_10 (dk_at dksX5_init_5 16 rfl rfl)
theorem dX5_init_132 : decode cX5_init 132 = .ok (.putfield 52, 3) := dk_181 0 52 (dk_at dksX5_init_5 18 rfl rfl)
theorem dX5_init_135 : decode cX5_init 135 = .ok (.aload_n 0, 1) := dk_42 (dk_at dksX5_init_5 21 rfl rfl)
theorem dX5_init_136 : decode cX5_init 136 = .ok (.sipush 225, 3) := dk_17 0 225 (dk_at dksX5_init_6 0 rfl rfl)
theorem dX5_init_139 : decode cX5_init 139 = .ok (.newarray .int, 2) := dk_188_10 (dk_at dksX5_init_6 3 rfl rfl)
theorem dX5_init_141 : decode cX5_init 141 = .ok (.putfield 55, 3) := dk_181 0 55 (dk_at dksX5_init_6 5 rfl rfl)
theorem dX5_init_144 : decode cX5_init 144 = .ok (.aload_n 0, 1) := dk_42 (dk_at dksX5_init_6 8 rfl rfl)
theorem dX5_init_145 : decode cX5_init 145 = .ok (.ldc 58, 2) := dk_18 58 (dk_at dksX5_init_6 9 rfl rfl)
theorem dX5_init_147 : decode cX5_init 147 = .ok (.newarray .int, 2) := dk_188_10 (dk_at dksX5_init_6 11 rfl rfl)
theorem dX5_init_149 : decode cX5_init 149 = .ok (.putfield 59, 3) := dk_181 0 59 (dk_at dksX5_init_6 13 rfl rfl)
theorem dX5_init_152 : decode cX5_init 152 = .ok (.aload_n 0, 1) := dk_42 (dk_at dksX5_init_6 16 rfl rfl)
theorem dX5_init_153 : decode cX5_init 153 = .ok (.sipush 300, 3) := dk_17 1 44 (dk_at dksX5_init_6 17 rfl rfl)
theorem dX5_init_156 : decode cX5_init 156 = .ok (.newarray .int, 2) := dk_188_10 (dk_at dksX5_init_6 20 rfl rfl)
theorem dX5_init_158 : decode cX5_init 158 = .ok (.putfield 62, 3) := dk_181 0 62 (dk_at dksX5_init_7 0 rfl rfl)
theorem dX5_init_161 : decode cX5_init 161 = .ok (.aload_n 0, 1) := dk_42 (dk_at dksX5_init_7 3 rfl rfl)
theorem dX5_init_162 : decode cX5_init 162 = .ok (.bipush 25, 2) := dk_16 25 (dk_at dksX5_init_7 4 rfl rfl)
theorem dX5_init_164 : decode cX5_init 164 = .ok (.newarray .int, 2) := dk_188_10 (dk_at dksX5_init_7 6 rfl rfl)
theorem dX5_init_166 : decode cX5_init 166 = .ok (.putfield 65, 3) := dk_181 0 65 (dk_at dksX5_init_7 8 rfl rfl)
theorem dX5_init_169 : decode cX5_init 169 = .ok (.aload_n 0, 1) := dk_42 (dk_at dksX5_init_7 11 rfl rfl)
theorem dX5_init_170 : decode cX5_init 170 = .ok (.bipush 6, 2) := dk_16 6 (dk_at dksX5_init_7 12 rfl rfl)
theorem dX5_init_172 : decode cX5_init 172 = .ok (.newarray .int, 2) := dk_188_10 (dk_at dksX5_init_7 14 rfl rfl)
theorem dX5_init_174 : decode cX5_init 174 = .ok (.putfield 68, 3) := dk_181 0 68 (dk_at dksX5_init_7 16 rfl rfl)
theorem dX5_init_177 : decode cX5_init 177 = .ok (.aload_n 0, 1) := dk_42 (dk_at dksX5_init_7 19 rfl rfl)
theorem dX5_init_178 : decode cX5_init 178 = .ok (.getfield 7, 3) := dk_180 0 7 (dk_at dksX5_init_7 20 rfl rfl)
theorem dX5_init_181 : decode cX5_init 181 = .ok (.iconst 0, 1) := dk_3 (dk_at dksX5_init_7 23 rfl rfl)
theorem dX5_init_182 : decode cX5_init 182 = .ok (.iconst 1, 1) := dk_4 (dk_at dksX5_init_8 0 rfl rfl)
theorem dX5_init_183 : decode cX5_init 183 = .ok (.iastore, 1) := dk_79 (dk_at dksX5_init_8 1 rfl rfl)
theorem dX5_init_184 : decode cX5_init 184 = .ok (.aload_n 0, 1) := dk_42 (dk_at dksX5_init_8 2 rfl rfl)
theorem dX5_init_185 : decode cX5_init 185 = .ok (.getfield 7, 3) := dk_180 0 7 (dk_at dksX5_init_8 3 rfl rfl)
theorem dX5_init_188 : decode cX5_init 188 = .ok (.iconst 1, 1) := dk_4 (dk_at dksX5_init_8 6 rfl rfl)
theorem dX5_init_189 : decode cX5_init 189 = .ok (.iconst 1, 1) := dk_4 (dk_at dksX5_init_8 7 rfl rfl)
theorem dX5_init_190 : decode cX5_init 190 = .ok (.iastore, 1) := dk_79 (dk_at dksX5_init_8 8 rfl rfl)
theorem dX5_init_191 : decode cX5_init 191 = .ok (.iconst 0, 1) := dk_3 (dk_at dksX5_init_8 9 rfl rfl)
theorem dX5_init_192 : decode cX5_init 192 = .ok (.istore_n 1, 1) := dk_60 (dk_at dksX5_init_8 10 rfl rfl)
theorem dX5_init_193 : decode cX5_init 193 = .ok (.iload_n 1, 1) := dk_27 (dk_at dksX5_init_8 11 rfl rfl)
theorem dX5_init_194 : decode cX5_init 194 = .ok (.bipush 10, 2) := dk_16 10 (dk_at dksX5_init_8 12 rfl rfl)
theorem dX5_init_196 : decode cX5_init 196 = .ok (.if_icmp .ge 18, 3) := dk_162 0 18 (dk_at dksX5_init_8 14 rfl rfl)
theorem dX5_init_199 : decode cX5_init 199 = .ok (.aload_n 0, 1) := dk_42 (dk_at dksX5_init_8 17 rfl rfl)
theorem dX5_init_200 : decode cX5_init 200 = .ok (.getfield 7, 3) := dk_180 0 7 (dk_at dksX5_init_8 18 rfl rfl)
theorem dX5_init_203 : decode cX5_init 203 = .ok (.iconst 4, 1) := dk_7 (dk_at dksX5_init_8 21 rfl rfl)
theorem dX5_init_204 : decode cX5_init 204 = .ok (.iload_n 1, 1) := dk_27 (dk_at dksX5_init_8 22 rfl rfl)
theorem dX5_init_205 : decode cX5_init 205 = .ok (.iadd, 1) := dk_96 (dk_at dksX5_init_8 23 rfl rfl)
theorem dX5_init_206 : decode cX5_init 206 = .ok (.iconst (-1), 1) := dk_2 (dk_at dksX5_init_9 0 rfl rfl)
theorem dX5_init_207 : decode cX5_init 207 = .ok (.iastore, 1) := dk_79 (dk_at dksX5_init_9 1 rfl rfl)
theorem dX5_init_208 : decode cX5_init 208 = .ok (.iinc 1 1, 3) := dk_132 1 1 (dk_at dksX5_init_9 2 rfl rfl)
theorem dX5_init_211 : decode cX5_init 211 = .ok (.goto (-18), 3) := dk_167 255 238 (dk_at dksX5_init_9 5 rfl rfl)
theorem dX5_init_214 : decode cX5_init 214 = .ok (.return_, 1) := dk_177 (dk_at dksX5_init_9 8 rfl rfl)
abbrev cX5_state : ByteArray := prog_19_method_14_code
def yX5_state : MethodName := ⟨RX5, "state", "(I)I"⟩
def dkwX5_state_0 : List UInt8 := [42, 182, 0, 110, 42, 42, 27, 182, 0, 113, 182, 0, 116, 172]
abbrev dktX5_state_0 : List UInt8 := dkwX5_state_0 ++ []
theorem dksX5_state_0 : cX5_state.data.toList.drop 0 = dktX5_state_0 := by decide +kernel
theorem dX5_state_0 : decode cX5_state 0 = .ok (.aload_n 0, 1) := dk_42 (dk_at dksX5_state_0 0 rfl rfl)
theorem dX5_state_1 : decode cX5_state 1 = .ok (.invokevirtual 110, 3) := dk_182 0 110 (dk_at dksX5_state_0 1 rfl rfl)
theorem dX5_state_4 : decode cX5_state 4 = .ok (.aload_n 0, 1) := dk_42 (dk_at dksX5_state_0 4 rfl rfl)
theorem dX5_state_5 : decode cX5_state 5 = .ok (.aload_n 0, 1) := dk_42 (dk_at dksX5_state_0 5 rfl rfl)
theorem dX5_state_6 : decode cX5_state 6 = .ok (.iload_n 1, 1) := dk_27 (dk_at dksX5_state_0 6 rfl rfl)
theorem dX5_state_7 : decode cX5_state 7 = .ok (.invokevirtual 113, 3) := dk_182 0 113 (dk_at dksX5_state_0 7 rfl rfl)
theorem dX5_state_10 : decode cX5_state 10 = .ok (.invokevirtual 116, 3) := dk_182 0 116 (dk_at dksX5_state_0 10 rfl rfl)
theorem dX5_state_13 : decode cX5_state 13 = .ok (.ireturn, 1) := dk_172 (dk_at dksX5_state_0 13 rfl rfl)
abbrev cX5_begins : ByteArray := prog_19_method_6_code
def yX5_begins : MethodName := ⟨RX5, "begins", "()V"⟩
def dkwX5_begins_0 : List UInt8 := [42, 3, 181, 0, 71, 42, 180, 0, 13, 42, 180, 0, 7, 184, 0, 88, 177]
abbrev dktX5_begins_0 : List UInt8 := dkwX5_begins_0 ++ []
theorem dksX5_begins_0 : cX5_begins.data.toList.drop 0 = dktX5_begins_0 := by decide +kernel
theorem dX5_begins_0 : decode cX5_begins 0 = .ok (.aload_n 0, 1) := dk_42 (dk_at dksX5_begins_0 0 rfl rfl)
theorem dX5_begins_1 : decode cX5_begins 1 = .ok (.iconst 0, 1) := dk_3 (dk_at dksX5_begins_0 1 rfl rfl)
theorem dX5_begins_2 : decode cX5_begins 2 = .ok (.putfield 71, 3) := dk_181 0 71 (dk_at dksX5_begins_0 2 rfl rfl)
theorem dX5_begins_5 : decode cX5_begins 5 = .ok (.aload_n 0, 1) := dk_42 (dk_at dksX5_begins_0 5 rfl rfl)
theorem dX5_begins_6 : decode cX5_begins 6 = .ok (.getfield 13, 3) := dk_180 0 13 (dk_at dksX5_begins_0 6 rfl rfl)
theorem dX5_begins_9 : decode cX5_begins 9 = .ok (.aload_n 0, 1) := dk_42 (dk_at dksX5_begins_0 9 rfl rfl)
theorem dX5_begins_10 : decode cX5_begins 10 = .ok (.getfield 7, 3) := dk_180 0 7 (dk_at dksX5_begins_0 10 rfl rfl)
theorem dX5_begins_13 : decode cX5_begins 13 = .ok (.invokestatic 88, 3) := dk_184 0 88 (dk_at dksX5_begins_0 13 rfl rfl)
theorem dX5_begins_16 : decode cX5_begins 16 = .ok (.return_, 1) := dk_177 (dk_at dksX5_begins_0 16 rfl rfl)
abbrev cX5_lays : ByteArray := prog_19_method_5_code
def yX5_lays : MethodName := ⟨RX5, "lays", "([I[I)V"⟩
def dkwX5_lays_0 : List UInt8 := [3, 61, 28, 17, 0, 137, 162, 0, 15, 42, 28, 43, 28, 46, 79, 132, 2, 1, 167, 255, 240, 177]
abbrev dktX5_lays_0 : List UInt8 := dkwX5_lays_0 ++ []
theorem dksX5_lays_0 : cX5_lays.data.toList.drop 0 = dktX5_lays_0 := by decide +kernel
theorem dX5_lays_0 : decode cX5_lays 0 = .ok (.iconst 0, 1) := dk_3 (dk_at dksX5_lays_0 0 rfl rfl)
theorem dX5_lays_1 : decode cX5_lays 1 = .ok (.istore_n 2, 1) := dk_61 (dk_at dksX5_lays_0 1 rfl rfl)
theorem dX5_lays_2 : decode cX5_lays 2 = .ok (.iload_n 2, 1) := dk_28 (dk_at dksX5_lays_0 2 rfl rfl)
theorem dX5_lays_3 : decode cX5_lays 3 = .ok (.sipush 137, 3) := dk_17 0 137 (dk_at dksX5_lays_0 3 rfl rfl)
theorem dX5_lays_6 : decode cX5_lays 6 = .ok (.if_icmp .ge 15, 3) := dk_162 0 15 (dk_at dksX5_lays_0 6 rfl rfl)
theorem dX5_lays_9 : decode cX5_lays 9 = .ok (.aload_n 0, 1) := dk_42 (dk_at dksX5_lays_0 9 rfl rfl)
theorem dX5_lays_10 : decode cX5_lays 10 = .ok (.iload_n 2, 1) := dk_28 (dk_at dksX5_lays_0 10 rfl rfl)
theorem dX5_lays_11 : decode cX5_lays 11 = .ok (.aload_n 1, 1) := dk_43 (dk_at dksX5_lays_0 11 rfl rfl)
theorem dX5_lays_12 : decode cX5_lays 12 = .ok (.iload_n 2, 1) := dk_28 (dk_at dksX5_lays_0 12 rfl rfl)
theorem dX5_lays_13 : decode cX5_lays 13 = .ok (.iaload, 1) := dk_46 (dk_at dksX5_lays_0 13 rfl rfl)
theorem dX5_lays_14 : decode cX5_lays 14 = .ok (.iastore, 1) := dk_79 (dk_at dksX5_lays_0 14 rfl rfl)
theorem dX5_lays_15 : decode cX5_lays 15 = .ok (.iinc 2 1, 3) := dk_132 2 1 (dk_at dksX5_lays_0 15 rfl rfl)
theorem dX5_lays_18 : decode cX5_lays 18 = .ok (.goto (-16), 3) := dk_167 255 240 (dk_at dksX5_lays_0 18 rfl rfl)
theorem dX5_lays_21 : decode cX5_lays 21 = .ok (.return_, 1) := dk_177 (dk_at dksX5_lays_0 21 rfl rfl)
abbrev cX5_comes : ByteArray := prog_19_method_13_code
def yX5_comes : MethodName := ⟨RX5, "comes", "(I)I"⟩
def dkwX5_comes_3 : List UInt8 := [46, 4, 100, 172]
abbrev dktX5_comes_3 : List UInt8 := dkwX5_comes_3 ++ []
def dkwX5_comes_2 : List UInt8 := [184, 0, 107, 2, 79, 42, 180, 0, 7, 3, 27, 96, 92, 46, 4, 96, 79, 42, 180, 0, 7, 3, 27, 96]
abbrev dktX5_comes_2 : List UInt8 := dkwX5_comes_2 ++ dktX5_comes_3
def dkwX5_comes_1 : List UInt8 := [160, 0, 10, 42, 4, 8, 182, 0, 103, 172, 42, 180, 0, 7, 27, 42, 180, 0, 7, 3, 27, 96, 46]
abbrev dktX5_comes_1 : List UInt8 := dkwX5_comes_1 ++ dktX5_comes_2
def dkwX5_comes_0 : List UInt8 := [27, 184, 0, 99, 154, 0, 10, 42, 16, 245, 182, 0, 84, 172, 42, 180, 0, 7, 3, 27, 96, 46, 8]
abbrev dktX5_comes_0 : List UInt8 := dkwX5_comes_0 ++ dktX5_comes_1
theorem dksX5_comes_0 : cX5_comes.data.toList.drop 0 = dktX5_comes_0 := by decide +kernel
theorem dksX5_comes_1 : cX5_comes.data.toList.drop 23 = dktX5_comes_1 := dk_seg dksX5_comes_0 23 rfl rfl
theorem dksX5_comes_2 : cX5_comes.data.toList.drop 46 = dktX5_comes_2 := dk_seg dksX5_comes_1 23 rfl rfl
theorem dksX5_comes_3 : cX5_comes.data.toList.drop 70 = dktX5_comes_3 := dk_seg dksX5_comes_2 24 rfl rfl
theorem dX5_comes_0 : decode cX5_comes 0 = .ok (.iload_n 1, 1) := dk_27 (dk_at dksX5_comes_0 0 rfl rfl)
theorem dX5_comes_1 : decode cX5_comes 1 = .ok (.invokestatic 99, 3) := dk_184 0 99 (dk_at dksX5_comes_0 1 rfl rfl)
theorem dX5_comes_4 : decode cX5_comes 4 = .ok (.ifCond .ne 10, 3) := dk_154 0 10 (dk_at dksX5_comes_0 4 rfl rfl)
theorem dX5_comes_7 : decode cX5_comes 7 = .ok (.aload_n 0, 1) := dk_42 (dk_at dksX5_comes_0 7 rfl rfl)
theorem dX5_comes_8 : decode cX5_comes 8 = .ok (.bipush (-11), 2) := dk_16 245 (dk_at dksX5_comes_0 8 rfl rfl)
theorem dX5_comes_10 : decode cX5_comes 10 = .ok (.invokevirtual 84, 3) := dk_182 0 84 (dk_at dksX5_comes_0 10 rfl rfl)
theorem dX5_comes_13 : decode cX5_comes 13 = .ok (.ireturn, 1) := dk_172 (dk_at dksX5_comes_0 13 rfl rfl)
theorem dX5_comes_14 : decode cX5_comes 14 = .ok (.aload_n 0, 1) := dk_42 (dk_at dksX5_comes_0 14 rfl rfl)
theorem dX5_comes_15 : decode cX5_comes 15 = .ok (.getfield 7, 3) := dk_180 0 7 (dk_at dksX5_comes_0 15 rfl rfl)
theorem dX5_comes_18 : decode cX5_comes 18 = .ok (.iconst 0, 1) := dk_3 (dk_at dksX5_comes_0 18 rfl rfl)
theorem dX5_comes_19 : decode cX5_comes 19 = .ok (.iload_n 1, 1) := dk_27 (dk_at dksX5_comes_0 19 rfl rfl)
theorem dX5_comes_20 : decode cX5_comes 20 = .ok (.iadd, 1) := dk_96 (dk_at dksX5_comes_0 20 rfl rfl)
theorem dX5_comes_21 : decode cX5_comes 21 = .ok (.iaload, 1) := dk_46 (dk_at dksX5_comes_0 21 rfl rfl)
theorem dX5_comes_22 : decode cX5_comes 22 = .ok (.iconst 5, 1) := dk_8 (dk_at dksX5_comes_0 22 rfl rfl)
theorem dX5_comes_23 : decode cX5_comes 23 = .ok (.if_icmp .ne 10, 3) := dk_160 0 10 (dk_at dksX5_comes_1 0 rfl rfl)
theorem dX5_comes_26 : decode cX5_comes 26 = .ok (.aload_n 0, 1) := dk_42 (dk_at dksX5_comes_1 3 rfl rfl)
theorem dX5_comes_27 : decode cX5_comes 27 = .ok (.iconst 1, 1) := dk_4 (dk_at dksX5_comes_1 4 rfl rfl)
theorem dX5_comes_28 : decode cX5_comes 28 = .ok (.iconst 5, 1) := dk_8 (dk_at dksX5_comes_1 5 rfl rfl)
theorem dX5_comes_29 : decode cX5_comes 29 = .ok (.invokevirtual 103, 3) := dk_182 0 103 (dk_at dksX5_comes_1 6 rfl rfl)
theorem dX5_comes_32 : decode cX5_comes 32 = .ok (.ireturn, 1) := dk_172 (dk_at dksX5_comes_1 9 rfl rfl)
theorem dX5_comes_33 : decode cX5_comes 33 = .ok (.aload_n 0, 1) := dk_42 (dk_at dksX5_comes_1 10 rfl rfl)
theorem dX5_comes_34 : decode cX5_comes 34 = .ok (.getfield 7, 3) := dk_180 0 7 (dk_at dksX5_comes_1 11 rfl rfl)
theorem dX5_comes_37 : decode cX5_comes 37 = .ok (.iload_n 1, 1) := dk_27 (dk_at dksX5_comes_1 14 rfl rfl)
theorem dX5_comes_38 : decode cX5_comes 38 = .ok (.aload_n 0, 1) := dk_42 (dk_at dksX5_comes_1 15 rfl rfl)
theorem dX5_comes_39 : decode cX5_comes 39 = .ok (.getfield 7, 3) := dk_180 0 7 (dk_at dksX5_comes_1 16 rfl rfl)
theorem dX5_comes_42 : decode cX5_comes 42 = .ok (.iconst 0, 1) := dk_3 (dk_at dksX5_comes_1 19 rfl rfl)
theorem dX5_comes_43 : decode cX5_comes 43 = .ok (.iload_n 1, 1) := dk_27 (dk_at dksX5_comes_1 20 rfl rfl)
theorem dX5_comes_44 : decode cX5_comes 44 = .ok (.iadd, 1) := dk_96 (dk_at dksX5_comes_1 21 rfl rfl)
theorem dX5_comes_45 : decode cX5_comes 45 = .ok (.iaload, 1) := dk_46 (dk_at dksX5_comes_1 22 rfl rfl)
theorem dX5_comes_46 : decode cX5_comes 46 = .ok (.invokestatic 107, 3) := dk_184 0 107 (dk_at dksX5_comes_2 0 rfl rfl)
theorem dX5_comes_49 : decode cX5_comes 49 = .ok (.iconst (-1), 1) := dk_2 (dk_at dksX5_comes_2 3 rfl rfl)
theorem dX5_comes_50 : decode cX5_comes 50 = .ok (.iastore, 1) := dk_79 (dk_at dksX5_comes_2 4 rfl rfl)
theorem dX5_comes_51 : decode cX5_comes 51 = .ok (.aload_n 0, 1) := dk_42 (dk_at dksX5_comes_2 5 rfl rfl)
theorem dX5_comes_52 : decode cX5_comes 52 = .ok (.getfield 7, 3) := dk_180 0 7 (dk_at dksX5_comes_2 6 rfl rfl)
theorem dX5_comes_55 : decode cX5_comes 55 = .ok (.iconst 0, 1) := dk_3 (dk_at dksX5_comes_2 9 rfl rfl)
theorem dX5_comes_56 : decode cX5_comes 56 = .ok (.iload_n 1, 1) := dk_27 (dk_at dksX5_comes_2 10 rfl rfl)
theorem dX5_comes_57 : decode cX5_comes 57 = .ok (.iadd, 1) := dk_96 (dk_at dksX5_comes_2 11 rfl rfl)
theorem dX5_comes_58 : decode cX5_comes 58 = .ok (.dup2, 1) := dk_92 (dk_at dksX5_comes_2 12 rfl rfl)
theorem dX5_comes_59 : decode cX5_comes 59 = .ok (.iaload, 1) := dk_46 (dk_at dksX5_comes_2 13 rfl rfl)
theorem dX5_comes_60 : decode cX5_comes 60 = .ok (.iconst 1, 1) := dk_4 (dk_at dksX5_comes_2 14 rfl rfl)
theorem dX5_comes_61 : decode cX5_comes 61 = .ok (.iadd, 1) := dk_96 (dk_at dksX5_comes_2 15 rfl rfl)
theorem dX5_comes_62 : decode cX5_comes 62 = .ok (.iastore, 1) := dk_79 (dk_at dksX5_comes_2 16 rfl rfl)
theorem dX5_comes_63 : decode cX5_comes 63 = .ok (.aload_n 0, 1) := dk_42 (dk_at dksX5_comes_2 17 rfl rfl)
theorem dX5_comes_64 : decode cX5_comes 64 = .ok (.getfield 7, 3) := dk_180 0 7 (dk_at dksX5_comes_2 18 rfl rfl)
theorem dX5_comes_67 : decode cX5_comes 67 = .ok (.iconst 0, 1) := dk_3 (dk_at dksX5_comes_2 21 rfl rfl)
theorem dX5_comes_68 : decode cX5_comes 68 = .ok (.iload_n 1, 1) := dk_27 (dk_at dksX5_comes_2 22 rfl rfl)
theorem dX5_comes_69 : decode cX5_comes 69 = .ok (.iadd, 1) := dk_96 (dk_at dksX5_comes_2 23 rfl rfl)
theorem dX5_comes_70 : decode cX5_comes 70 = .ok (.iaload, 1) := dk_46 (dk_at dksX5_comes_3 0 rfl rfl)
theorem dX5_comes_71 : decode cX5_comes 71 = .ok (.iconst 1, 1) := dk_4 (dk_at dksX5_comes_3 1 rfl rfl)
theorem dX5_comes_72 : decode cX5_comes 72 = .ok (.isub, 1) := dk_100 (dk_at dksX5_comes_3 2 rfl rfl)
theorem dX5_comes_73 : decode cX5_comes 73 = .ok (.ireturn, 1) := dk_172 (dk_at dksX5_comes_3 3 rfl rfl)
abbrev cX5_isRule : ByteArray := prog_19_method_8_code
def yX5_isRule : MethodName := ⟨RX5, "isRule", "(I)Z"⟩
def dkwX5_isRule_0 : List UInt8 := [26, 3, 4, 184, 0, 95, 172]
abbrev dktX5_isRule_0 : List UInt8 := dkwX5_isRule_0 ++ []
theorem dksX5_isRule_0 : cX5_isRule.data.toList.drop 0 = dktX5_isRule_0 := by decide +kernel
theorem dX5_isRule_0 : decode cX5_isRule 0 = .ok (.iload_n 0, 1) := dk_26 (dk_at dksX5_isRule_0 0 rfl rfl)
theorem dX5_isRule_1 : decode cX5_isRule 1 = .ok (.iconst 0, 1) := dk_3 (dk_at dksX5_isRule_0 1 rfl rfl)
theorem dX5_isRule_2 : decode cX5_isRule 2 = .ok (.iconst 1, 1) := dk_4 (dk_at dksX5_isRule_0 2 rfl rfl)
theorem dX5_isRule_3 : decode cX5_isRule 3 = .ok (.invokestatic 95, 3) := dk_184 0 95 (dk_at dksX5_isRule_0 3 rfl rfl)
theorem dX5_isRule_6 : decode cX5_isRule 6 = .ok (.ireturn, 1) := dk_172 (dk_at dksX5_isRule_0 6 rfl rfl)
abbrev cX5_isIn : ByteArray := prog_19_method_4_code
def yX5_isIn : MethodName := ⟨RX5, "isIn", "(III)Z"⟩
def dkwX5_isIn_0 : List UInt8 := [26, 27, 161, 0, 12, 26, 28, 163, 0, 7, 4, 167, 0, 4, 3, 172]
abbrev dktX5_isIn_0 : List UInt8 := dkwX5_isIn_0 ++ []
theorem dksX5_isIn_0 : cX5_isIn.data.toList.drop 0 = dktX5_isIn_0 := by decide +kernel
theorem dX5_isIn_0 : decode cX5_isIn 0 = .ok (.iload_n 0, 1) := dk_26 (dk_at dksX5_isIn_0 0 rfl rfl)
theorem dX5_isIn_1 : decode cX5_isIn 1 = .ok (.iload_n 1, 1) := dk_27 (dk_at dksX5_isIn_0 1 rfl rfl)
theorem dX5_isIn_2 : decode cX5_isIn 2 = .ok (.if_icmp .lt 12, 3) := dk_161 0 12 (dk_at dksX5_isIn_0 2 rfl rfl)
theorem dX5_isIn_5 : decode cX5_isIn 5 = .ok (.iload_n 0, 1) := dk_26 (dk_at dksX5_isIn_0 5 rfl rfl)
theorem dX5_isIn_6 : decode cX5_isIn 6 = .ok (.iload_n 2, 1) := dk_28 (dk_at dksX5_isIn_0 6 rfl rfl)
theorem dX5_isIn_7 : decode cX5_isIn 7 = .ok (.if_icmp .gt 7, 3) := dk_163 0 7 (dk_at dksX5_isIn_0 7 rfl rfl)
theorem dX5_isIn_10 : decode cX5_isIn 10 = .ok (.iconst 1, 1) := dk_4 (dk_at dksX5_isIn_0 10 rfl rfl)
theorem dX5_isIn_11 : decode cX5_isIn 11 = .ok (.goto 4, 3) := dk_167 0 4 (dk_at dksX5_isIn_0 11 rfl rfl)
theorem dX5_isIn_14 : decode cX5_isIn 14 = .ok (.iconst 0, 1) := dk_3 (dk_at dksX5_isIn_0 14 rfl rfl)
theorem dX5_isIn_15 : decode cX5_isIn 15 = .ok (.ireturn, 1) := dk_172 (dk_at dksX5_isIn_0 15 rfl rfl)
abbrev cX5_fail : ByteArray := prog_19_method_2_code
def yX5_fail : MethodName := ⟨RX5, "fail", "(I)I"⟩
def dkwX5_fail_0 : List UInt8 := [42, 27, 181, 0, 71, 27, 172]
abbrev dktX5_fail_0 : List UInt8 := dkwX5_fail_0 ++ []
theorem dksX5_fail_0 : cX5_fail.data.toList.drop 0 = dktX5_fail_0 := by decide +kernel
theorem dX5_fail_0 : decode cX5_fail 0 = .ok (.aload_n 0, 1) := dk_42 (dk_at dksX5_fail_0 0 rfl rfl)
theorem dX5_fail_1 : decode cX5_fail 1 = .ok (.iload_n 1, 1) := dk_27 (dk_at dksX5_fail_0 1 rfl rfl)
theorem dX5_fail_2 : decode cX5_fail 2 = .ok (.putfield 71, 3) := dk_181 0 71 (dk_at dksX5_fail_0 2 rfl rfl)
theorem dX5_fail_5 : decode cX5_fail 5 = .ok (.iload_n 1, 1) := dk_27 (dk_at dksX5_fail_0 5 rfl rfl)
theorem dX5_fail_6 : decode cX5_fail 6 = .ok (.ireturn, 1) := dk_172 (dk_at dksX5_fail_0 6 rfl rfl)
abbrev cX5_refuses : ByteArray := prog_19_method_3_code
def yX5_refuses : MethodName := ⟨RX5, "refuses", "(II)I"⟩
def dkwX5_refuses_0 : List UInt8 := [42, 27, 181, 0, 75, 42, 28, 181, 0, 78, 42, 3, 181, 0, 81, 42, 16, 242, 182, 0, 84, 172]
abbrev dktX5_refuses_0 : List UInt8 := dkwX5_refuses_0 ++ []
theorem dksX5_refuses_0 : cX5_refuses.data.toList.drop 0 = dktX5_refuses_0 := by decide +kernel
theorem dX5_refuses_0 : decode cX5_refuses 0 = .ok (.aload_n 0, 1) := dk_42 (dk_at dksX5_refuses_0 0 rfl rfl)
theorem dX5_refuses_1 : decode cX5_refuses 1 = .ok (.iload_n 1, 1) := dk_27 (dk_at dksX5_refuses_0 1 rfl rfl)
theorem dX5_refuses_2 : decode cX5_refuses 2 = .ok (.putfield 75, 3) := dk_181 0 75 (dk_at dksX5_refuses_0 2 rfl rfl)
theorem dX5_refuses_5 : decode cX5_refuses 5 = .ok (.aload_n 0, 1) := dk_42 (dk_at dksX5_refuses_0 5 rfl rfl)
theorem dX5_refuses_6 : decode cX5_refuses 6 = .ok (.iload_n 2, 1) := dk_28 (dk_at dksX5_refuses_0 6 rfl rfl)
theorem dX5_refuses_7 : decode cX5_refuses 7 = .ok (.putfield 78, 3) := dk_181 0 78 (dk_at dksX5_refuses_0 7 rfl rfl)
theorem dX5_refuses_10 : decode cX5_refuses 10 = .ok (.aload_n 0, 1) := dk_42 (dk_at dksX5_refuses_0 10 rfl rfl)
theorem dX5_refuses_11 : decode cX5_refuses 11 = .ok (.iconst 0, 1) := dk_3 (dk_at dksX5_refuses_0 11 rfl rfl)
theorem dX5_refuses_12 : decode cX5_refuses 12 = .ok (.putfield 81, 3) := dk_181 0 81 (dk_at dksX5_refuses_0 12 rfl rfl)
theorem dX5_refuses_15 : decode cX5_refuses 15 = .ok (.aload_n 0, 1) := dk_42 (dk_at dksX5_refuses_0 15 rfl rfl)
theorem dX5_refuses_16 : decode cX5_refuses 16 = .ok (.bipush (-14), 2) := dk_16 242 (dk_at dksX5_refuses_0 16 rfl rfl)
theorem dX5_refuses_18 : decode cX5_refuses 18 = .ok (.invokevirtual 84, 3) := dk_182 0 84 (dk_at dksX5_refuses_0 18 rfl rfl)
theorem dX5_refuses_21 : decode cX5_refuses 21 = .ok (.ireturn, 1) := dk_172 (dk_at dksX5_refuses_0 21 rfl rfl)
abbrev cX5_endAt : ByteArray := prog_19_method_11_code
def yX5_endAt : MethodName := ⟨RX5, "endAt", "(II)I"⟩
def dkwX5_endAt_0 : List UInt8 := [7, 8, 26, 104, 96, 27, 96, 172]
abbrev dktX5_endAt_0 : List UInt8 := dkwX5_endAt_0 ++ []
theorem dksX5_endAt_0 : cX5_endAt.data.toList.drop 0 = dktX5_endAt_0 := by decide +kernel
theorem dX5_endAt_0 : decode cX5_endAt 0 = .ok (.iconst 4, 1) := dk_7 (dk_at dksX5_endAt_0 0 rfl rfl)
theorem dX5_endAt_1 : decode cX5_endAt 1 = .ok (.iconst 5, 1) := dk_8 (dk_at dksX5_endAt_0 1 rfl rfl)
theorem dX5_endAt_2 : decode cX5_endAt 2 = .ok (.iload_n 0, 1) := dk_26 (dk_at dksX5_endAt_0 2 rfl rfl)
theorem dX5_endAt_3 : decode cX5_endAt 3 = .ok (.imul, 1) := dk_104 (dk_at dksX5_endAt_0 3 rfl rfl)
theorem dX5_endAt_4 : decode cX5_endAt 4 = .ok (.iadd, 1) := dk_96 (dk_at dksX5_endAt_0 4 rfl rfl)
theorem dX5_endAt_5 : decode cX5_endAt 5 = .ok (.iload_n 1, 1) := dk_27 (dk_at dksX5_endAt_0 5 rfl rfl)
theorem dX5_endAt_6 : decode cX5_endAt 6 = .ok (.iadd, 1) := dk_96 (dk_at dksX5_endAt_0 6 rfl rfl)
theorem dX5_endAt_7 : decode cX5_endAt 7 = .ok (.ireturn, 1) := dk_172 (dk_at dksX5_endAt_0 7 rfl rfl)
abbrev cX5_ends : ByteArray := prog_19_method_7_code
def yX5_ends : MethodName := ⟨RX5, "ends", "(I)I"⟩
def dkwX5_ends_5 : List UInt8 := [181, 0, 92, 27, 172]
abbrev dktX5_ends_5 : List UInt8 := dkwX5_ends_5 ++ []
def dkwX5_ends_4 : List UInt8 := [28, 96, 42, 180, 0, 13, 28, 46, 79, 132, 2, 1, 167, 255, 225, 42, 89, 180, 0, 92, 4, 96]
abbrev dktX5_ends_4 : List UInt8 := dkwX5_ends_4 ++ dktX5_ends_5
def dkwX5_ends_3 : List UInt8 := [181, 0, 92, 3, 61, 28, 17, 0, 137, 162, 0, 30, 42, 180, 0, 19, 42, 180, 0, 92, 17, 0, 137, 104]
abbrev dktX5_ends_3 : List UInt8 := dkwX5_ends_3 ++ dktX5_ends_4
def dkwX5_ends_2 : List UInt8 := [180, 0, 19, 28, 17, 0, 137, 96, 46, 79, 132, 2, 1, 167, 255, 230, 42, 89, 180, 0, 92, 4, 100]
abbrev dktX5_ends_2 : List UInt8 := dkwX5_ends_2 ++ dktX5_ends_3
def dkwX5_ends_1 : List UInt8 := [180, 0, 92, 16, 8, 160, 0, 44, 3, 61, 28, 17, 3, 191, 162, 0, 25, 42, 180, 0, 19, 28, 42]
abbrev dktX5_ends_1 : List UInt8 := dkwX5_ends_1 ++ dktX5_ends_2
def dkwX5_ends_0 : List UInt8 := [42, 180, 0, 71, 153, 0, 19, 42, 180, 0, 7, 42, 180, 0, 13, 184, 0, 88, 42, 180, 0, 71, 172, 42]
abbrev dktX5_ends_0 : List UInt8 := dkwX5_ends_0 ++ dktX5_ends_1
theorem dksX5_ends_0 : cX5_ends.data.toList.drop 0 = dktX5_ends_0 := by decide +kernel
theorem dksX5_ends_1 : cX5_ends.data.toList.drop 24 = dktX5_ends_1 := dk_seg dksX5_ends_0 24 rfl rfl
theorem dksX5_ends_2 : cX5_ends.data.toList.drop 47 = dktX5_ends_2 := dk_seg dksX5_ends_1 23 rfl rfl
theorem dksX5_ends_3 : cX5_ends.data.toList.drop 70 = dktX5_ends_3 := dk_seg dksX5_ends_2 23 rfl rfl
theorem dksX5_ends_4 : cX5_ends.data.toList.drop 94 = dktX5_ends_4 := dk_seg dksX5_ends_3 24 rfl rfl
theorem dksX5_ends_5 : cX5_ends.data.toList.drop 116 = dktX5_ends_5 := dk_seg dksX5_ends_4 22 rfl rfl
theorem dX5_ends_0 : decode cX5_ends 0 = .ok (.aload_n 0, 1) := dk_42 (dk_at dksX5_ends_0 0 rfl rfl)
theorem dX5_ends_1 : decode cX5_ends 1 = .ok (.getfield 71, 3) := dk_180 0 71 (dk_at dksX5_ends_0 1 rfl rfl)
theorem dX5_ends_4 : decode cX5_ends 4 = .ok (.ifCond .eq 19, 3) := dk_153 0 19 (dk_at dksX5_ends_0 4 rfl rfl)
theorem dX5_ends_7 : decode cX5_ends 7 = .ok (.aload_n 0, 1) := dk_42 (dk_at dksX5_ends_0 7 rfl rfl)
theorem dX5_ends_8 : decode cX5_ends 8 = .ok (.getfield 7, 3) := dk_180 0 7 (dk_at dksX5_ends_0 8 rfl rfl)
theorem dX5_ends_11 : decode cX5_ends 11 = .ok (.aload_n 0, 1) := dk_42 (dk_at dksX5_ends_0 11 rfl rfl)
theorem dX5_ends_12 : decode cX5_ends 12 = .ok (.getfield 13, 3) := dk_180 0 13 (dk_at dksX5_ends_0 12 rfl rfl)
theorem dX5_ends_15 : decode cX5_ends 15 = .ok (.invokestatic 88, 3) := dk_184 0 88 (dk_at dksX5_ends_0 15 rfl rfl)
theorem dX5_ends_18 : decode cX5_ends 18 = .ok (.aload_n 0, 1) := dk_42 (dk_at dksX5_ends_0 18 rfl rfl)
theorem dX5_ends_19 : decode cX5_ends 19 = .ok (.getfield 71, 3) := dk_180 0 71 (dk_at dksX5_ends_0 19 rfl rfl)
theorem dX5_ends_22 : decode cX5_ends 22 = .ok (.ireturn, 1) := dk_172 (dk_at dksX5_ends_0 22 rfl rfl)
theorem dX5_ends_23 : decode cX5_ends 23 = .ok (.aload_n 0, 1) := dk_42 (dk_at dksX5_ends_0 23 rfl rfl)
theorem dX5_ends_24 : decode cX5_ends 24 = .ok (.getfield 92, 3) := dk_180 0 92 (dk_at dksX5_ends_1 0 rfl rfl)
theorem dX5_ends_27 : decode cX5_ends 27 = .ok (.bipush 8, 2) := dk_16 8 (dk_at dksX5_ends_1 3 rfl rfl)
theorem dX5_ends_29 : decode cX5_ends 29 = .ok (.if_icmp .ne 44, 3) := dk_160 0 44 (dk_at dksX5_ends_1 5 rfl rfl)
theorem dX5_ends_32 : decode cX5_ends 32 = .ok (.iconst 0, 1) := dk_3 (dk_at dksX5_ends_1 8 rfl rfl)
theorem dX5_ends_33 : decode cX5_ends 33 = .ok (.istore_n 2, 1) := dk_61 (dk_at dksX5_ends_1 9 rfl rfl)
theorem dX5_ends_34 : decode cX5_ends 34 = .ok (.iload_n 2, 1) := dk_28 (dk_at dksX5_ends_1 10 rfl rfl)
theorem dX5_ends_35 : decode cX5_ends 35 = .ok (.sipush 959, 3) := dk_17 3 191 (dk_at dksX5_ends_1 11 rfl rfl)
theorem dX5_ends_38 : decode cX5_ends 38 = .ok (.if_icmp .ge 25, 3) := dk_162 0 25 (dk_at dksX5_ends_1 14 rfl rfl)
theorem dX5_ends_41 : decode cX5_ends 41 = .ok (.aload_n 0, 1) := dk_42 (dk_at dksX5_ends_1 17 rfl rfl)
theorem dX5_ends_42 : decode cX5_ends 42 = .ok (.getfield 19, 3) := dk_180 0 19 (dk_at dksX5_ends_1 18 rfl rfl)
theorem dX5_ends_45 : decode cX5_ends 45 = .ok (.iload_n 2, 1) := dk_28 (dk_at dksX5_ends_1 21 rfl rfl)
theorem dX5_ends_46 : decode cX5_ends 46 = .ok (.aload_n 0, 1) := dk_42 (dk_at dksX5_ends_1 22 rfl rfl)
theorem dX5_ends_47 : decode cX5_ends 47 = .ok (.getfield 19, 3) := dk_180 0 19 (dk_at dksX5_ends_2 0 rfl rfl)
theorem dX5_ends_50 : decode cX5_ends 50 = .ok (.iload_n 2, 1) := dk_28 (dk_at dksX5_ends_2 3 rfl rfl)
theorem dX5_ends_51 : decode cX5_ends 51 = .ok (.sipush 137, 3) := dk_17 0 137 (dk_at dksX5_ends_2 4 rfl rfl)
theorem dX5_ends_54 : decode cX5_ends 54 = .ok (.iadd, 1) := dk_96 (dk_at dksX5_ends_2 7 rfl rfl)
theorem dX5_ends_55 : decode cX5_ends 55 = .ok (.iaload, 1) := dk_46 (dk_at dksX5_ends_2 8 rfl rfl)
theorem dX5_ends_56 : decode cX5_ends 56 = .ok (.iastore, 1) := dk_79 (dk_at dksX5_ends_2 9 rfl rfl)
theorem dX5_ends_57 : decode cX5_ends 57 = .ok (.iinc 2 1, 3) := dk_132 2 1 (dk_at dksX5_ends_2 10 rfl rfl)
theorem dX5_ends_60 : decode cX5_ends 60 = .ok (.goto (-26), 3) := dk_167 255 230 (dk_at dksX5_ends_2 13 rfl rfl)
theorem dX5_ends_63 : decode cX5_ends 63 = .ok (.aload_n 0, 1) := dk_42 (dk_at dksX5_ends_2 16 rfl rfl)
theorem dX5_ends_64 : decode cX5_ends 64 = .ok (.dup, 1) := dk_89 (dk_at dksX5_ends_2 17 rfl rfl)
theorem dX5_ends_65 : decode cX5_ends 65 = .ok (.getfield 92, 3) := dk_180 0 92 (dk_at dksX5_ends_2 18 rfl rfl)
theorem dX5_ends_68 : decode cX5_ends 68 = .ok (.iconst 1, 1) := dk_4 (dk_at dksX5_ends_2 21 rfl rfl)
theorem dX5_ends_69 : decode cX5_ends 69 = .ok (.isub, 1) := dk_100 (dk_at dksX5_ends_2 22 rfl rfl)
theorem dX5_ends_70 : decode cX5_ends 70 = .ok (.putfield 92, 3) := dk_181 0 92 (dk_at dksX5_ends_3 0 rfl rfl)
theorem dX5_ends_73 : decode cX5_ends 73 = .ok (.iconst 0, 1) := dk_3 (dk_at dksX5_ends_3 3 rfl rfl)
theorem dX5_ends_74 : decode cX5_ends 74 = .ok (.istore_n 2, 1) := dk_61 (dk_at dksX5_ends_3 4 rfl rfl)
theorem dX5_ends_75 : decode cX5_ends 75 = .ok (.iload_n 2, 1) := dk_28 (dk_at dksX5_ends_3 5 rfl rfl)
theorem dX5_ends_76 : decode cX5_ends 76 = .ok (.sipush 137, 3) := dk_17 0 137 (dk_at dksX5_ends_3 6 rfl rfl)
theorem dX5_ends_79 : decode cX5_ends 79 = .ok (.if_icmp .ge 30, 3) := dk_162 0 30 (dk_at dksX5_ends_3 9 rfl rfl)
theorem dX5_ends_82 : decode cX5_ends 82 = .ok (.aload_n 0, 1) := dk_42 (dk_at dksX5_ends_3 12 rfl rfl)
theorem dX5_ends_83 : decode cX5_ends 83 = .ok (.getfield 19, 3) := dk_180 0 19 (dk_at dksX5_ends_3 13 rfl rfl)
theorem dX5_ends_86 : decode cX5_ends 86 = .ok (.aload_n 0, 1) := dk_42 (dk_at dksX5_ends_3 16 rfl rfl)
theorem dX5_ends_87 : decode cX5_ends 87 = .ok (.getfield 92, 3) := dk_180 0 92 (dk_at dksX5_ends_3 17 rfl rfl)
theorem dX5_ends_90 : decode cX5_ends 90 = .ok (.sipush 137, 3) := dk_17 0 137 (dk_at dksX5_ends_3 20 rfl rfl)
theorem dX5_ends_93 : decode cX5_ends 93 = .ok (.imul, 1) := dk_104 (dk_at dksX5_ends_3 23 rfl rfl)
theorem dX5_ends_94 : decode cX5_ends 94 = .ok (.iload_n 2, 1) := dk_28 (dk_at dksX5_ends_4 0 rfl rfl)
theorem dX5_ends_95 : decode cX5_ends 95 = .ok (.iadd, 1) := dk_96 (dk_at dksX5_ends_4 1 rfl rfl)
theorem dX5_ends_96 : decode cX5_ends 96 = .ok (.aload_n 0, 1) := dk_42 (dk_at dksX5_ends_4 2 rfl rfl)
theorem dX5_ends_97 : decode cX5_ends 97 = .ok (.getfield 13, 3) := dk_180 0 13 (dk_at dksX5_ends_4 3 rfl rfl)
theorem dX5_ends_100 : decode cX5_ends 100 = .ok (.iload_n 2, 1) := dk_28 (dk_at dksX5_ends_4 6 rfl rfl)
theorem dX5_ends_101 : decode cX5_ends 101 = .ok (.iaload, 1) := dk_46 (dk_at dksX5_ends_4 7 rfl rfl)
theorem dX5_ends_102 : decode cX5_ends 102 = .ok (.iastore, 1) := dk_79 (dk_at dksX5_ends_4 8 rfl rfl)
theorem dX5_ends_103 : decode cX5_ends 103 = .ok (.iinc 2 1, 3) := dk_132 2 1 (dk_at dksX5_ends_4 9 rfl rfl)
theorem dX5_ends_106 : decode cX5_ends 106 = .ok (.goto (-31), 3) := dk_167 255 225 (dk_at dksX5_ends_4 12 rfl rfl)
theorem dX5_ends_109 : decode cX5_ends 109 = .ok (.aload_n 0, 1) := dk_42 (dk_at dksX5_ends_4 15 rfl rfl)
theorem dX5_ends_110 : decode cX5_ends 110 = .ok (.dup, 1) := dk_89 (dk_at dksX5_ends_4 16 rfl rfl)
theorem dX5_ends_111 : decode cX5_ends 111 = .ok (.getfield 92, 3) := dk_180 0 92 (dk_at dksX5_ends_4 17 rfl rfl)
theorem dX5_ends_114 : decode cX5_ends 114 = .ok (.iconst 1, 1) := dk_4 (dk_at dksX5_ends_4 20 rfl rfl)
theorem dX5_ends_115 : decode cX5_ends 115 = .ok (.iadd, 1) := dk_96 (dk_at dksX5_ends_4 21 rfl rfl)
theorem dX5_ends_116 : decode cX5_ends 116 = .ok (.putfield 92, 3) := dk_181 0 92 (dk_at dksX5_ends_5 0 rfl rfl)
theorem dX5_ends_119 : decode cX5_ends 119 = .ok (.iload_n 1, 1) := dk_27 (dk_at dksX5_ends_5 3 rfl rfl)
theorem dX5_ends_120 : decode cX5_ends 120 = .ok (.ireturn, 1) := dk_172 (dk_at dksX5_ends_5 4 rfl rfl)
abbrev cX5_end : ByteArray := prog_19_method_17_code
def yX5_end : MethodName := ⟨RX5, "end", "(III)I"⟩
def dkwX5_end_0 : List UInt8 := [42, 182, 0, 110, 42, 42, 27, 28, 29, 182, 0, 126, 182, 0, 116, 172]
abbrev dktX5_end_0 : List UInt8 := dkwX5_end_0 ++ []
theorem dksX5_end_0 : cX5_end.data.toList.drop 0 = dktX5_end_0 := by decide +kernel
theorem dX5_end_0 : decode cX5_end 0 = .ok (.aload_n 0, 1) := dk_42 (dk_at dksX5_end_0 0 rfl rfl)
theorem dX5_end_1 : decode cX5_end 1 = .ok (.invokevirtual 110, 3) := dk_182 0 110 (dk_at dksX5_end_0 1 rfl rfl)
theorem dX5_end_4 : decode cX5_end 4 = .ok (.aload_n 0, 1) := dk_42 (dk_at dksX5_end_0 4 rfl rfl)
theorem dX5_end_5 : decode cX5_end 5 = .ok (.aload_n 0, 1) := dk_42 (dk_at dksX5_end_0 5 rfl rfl)
theorem dX5_end_6 : decode cX5_end 6 = .ok (.iload_n 1, 1) := dk_27 (dk_at dksX5_end_0 6 rfl rfl)
theorem dX5_end_7 : decode cX5_end 7 = .ok (.iload_n 2, 1) := dk_28 (dk_at dksX5_end_0 7 rfl rfl)
theorem dX5_end_8 : decode cX5_end 8 = .ok (.iload_n 3, 1) := dk_29 (dk_at dksX5_end_0 8 rfl rfl)
theorem dX5_end_9 : decode cX5_end 9 = .ok (.invokevirtual 126, 3) := dk_182 0 126 (dk_at dksX5_end_0 9 rfl rfl)
theorem dX5_end_12 : decode cX5_end 12 = .ok (.invokevirtual 116, 3) := dk_182 0 116 (dk_at dksX5_end_0 12 rfl rfl)
theorem dX5_end_15 : decode cX5_end 15 = .ok (.ireturn, 1) := dk_172 (dk_at dksX5_end_0 15 rfl rfl)
abbrev cX5_setsEnd : ByteArray := prog_19_method_16_code
def yX5_setsEnd : MethodName := ⟨RX5, "setsEnd", "(III)I"⟩
def dkwX5_setsEnd_2 : List UInt8 := [42, 6, 28, 182, 0, 103, 172, 42, 180, 0, 7, 27, 28, 184, 0, 107, 29, 79, 42, 27, 182, 0, 123, 172]
abbrev dktX5_setsEnd_2 : List UInt8 := dkwX5_setsEnd_2 ++ []
def dkwX5_setsEnd_1 : List UInt8 := [154, 0, 10, 42, 16, 244, 182, 0, 84, 172, 42, 180, 0, 7, 27, 28, 184, 0, 107, 46, 29, 160, 0, 10]
abbrev dktX5_setsEnd_1 : List UInt8 := dkwX5_setsEnd_1 ++ dktX5_setsEnd_2
def dkwX5_setsEnd_0 : List UInt8 := [42, 27, 28, 182, 0, 119, 154, 0, 10, 42, 16, 245, 182, 0, 84, 172, 29, 2, 16, 9, 184, 0, 95]
abbrev dktX5_setsEnd_0 : List UInt8 := dkwX5_setsEnd_0 ++ dktX5_setsEnd_1
theorem dksX5_setsEnd_0 : cX5_setsEnd.data.toList.drop 0 = dktX5_setsEnd_0 := by decide +kernel
theorem dksX5_setsEnd_1 : cX5_setsEnd.data.toList.drop 23 = dktX5_setsEnd_1 := dk_seg dksX5_setsEnd_0 23 rfl rfl
theorem dksX5_setsEnd_2 : cX5_setsEnd.data.toList.drop 47 = dktX5_setsEnd_2 := dk_seg dksX5_setsEnd_1 24 rfl rfl
theorem dX5_setsEnd_0 : decode cX5_setsEnd 0 = .ok (.aload_n 0, 1) := dk_42 (dk_at dksX5_setsEnd_0 0 rfl rfl)
theorem dX5_setsEnd_1 : decode cX5_setsEnd 1 = .ok (.iload_n 1, 1) := dk_27 (dk_at dksX5_setsEnd_0 1 rfl rfl)
theorem dX5_setsEnd_2 : decode cX5_setsEnd 2 = .ok (.iload_n 2, 1) := dk_28 (dk_at dksX5_setsEnd_0 2 rfl rfl)
theorem dX5_setsEnd_3 : decode cX5_setsEnd 3 = .ok (.invokevirtual 119, 3) := dk_182 0 119 (dk_at dksX5_setsEnd_0 3 rfl rfl)
theorem dX5_setsEnd_6 : decode cX5_setsEnd 6 = .ok (.ifCond .ne 10, 3) := dk_154 0 10 (dk_at dksX5_setsEnd_0 6 rfl rfl)
theorem dX5_setsEnd_9 : decode cX5_setsEnd 9 = .ok (.aload_n 0, 1) := dk_42 (dk_at dksX5_setsEnd_0 9 rfl rfl)
theorem dX5_setsEnd_10 : decode cX5_setsEnd 10 = .ok (.bipush (-11), 2) := dk_16 245 (dk_at dksX5_setsEnd_0 10 rfl rfl)
theorem dX5_setsEnd_12 : decode cX5_setsEnd 12 = .ok (.invokevirtual 84, 3) := dk_182 0 84 (dk_at dksX5_setsEnd_0 12 rfl rfl)
theorem dX5_setsEnd_15 : decode cX5_setsEnd 15 = .ok (.ireturn, 1) := dk_172 (dk_at dksX5_setsEnd_0 15 rfl rfl)
theorem dX5_setsEnd_16 : decode cX5_setsEnd 16 = .ok (.iload_n 3, 1) := dk_29 (dk_at dksX5_setsEnd_0 16 rfl rfl)
theorem dX5_setsEnd_17 : decode cX5_setsEnd 17 = .ok (.iconst (-1), 1) := dk_2 (dk_at dksX5_setsEnd_0 17 rfl rfl)
theorem dX5_setsEnd_18 : decode cX5_setsEnd 18 = .ok (.bipush 9, 2) := dk_16 9 (dk_at dksX5_setsEnd_0 18 rfl rfl)
theorem dX5_setsEnd_20 : decode cX5_setsEnd 20 = .ok (.invokestatic 95, 3) := dk_184 0 95 (dk_at dksX5_setsEnd_0 20 rfl rfl)
theorem dX5_setsEnd_23 : decode cX5_setsEnd 23 = .ok (.ifCond .ne 10, 3) := dk_154 0 10 (dk_at dksX5_setsEnd_1 0 rfl rfl)
theorem dX5_setsEnd_26 : decode cX5_setsEnd 26 = .ok (.aload_n 0, 1) := dk_42 (dk_at dksX5_setsEnd_1 3 rfl rfl)
theorem dX5_setsEnd_27 : decode cX5_setsEnd 27 = .ok (.bipush (-12), 2) := dk_16 244 (dk_at dksX5_setsEnd_1 4 rfl rfl)
theorem dX5_setsEnd_29 : decode cX5_setsEnd 29 = .ok (.invokevirtual 84, 3) := dk_182 0 84 (dk_at dksX5_setsEnd_1 6 rfl rfl)
theorem dX5_setsEnd_32 : decode cX5_setsEnd 32 = .ok (.ireturn, 1) := dk_172 (dk_at dksX5_setsEnd_1 9 rfl rfl)
theorem dX5_setsEnd_33 : decode cX5_setsEnd 33 = .ok (.aload_n 0, 1) := dk_42 (dk_at dksX5_setsEnd_1 10 rfl rfl)
theorem dX5_setsEnd_34 : decode cX5_setsEnd 34 = .ok (.getfield 7, 3) := dk_180 0 7 (dk_at dksX5_setsEnd_1 11 rfl rfl)
theorem dX5_setsEnd_37 : decode cX5_setsEnd 37 = .ok (.iload_n 1, 1) := dk_27 (dk_at dksX5_setsEnd_1 14 rfl rfl)
theorem dX5_setsEnd_38 : decode cX5_setsEnd 38 = .ok (.iload_n 2, 1) := dk_28 (dk_at dksX5_setsEnd_1 15 rfl rfl)
theorem dX5_setsEnd_39 : decode cX5_setsEnd 39 = .ok (.invokestatic 107, 3) := dk_184 0 107 (dk_at dksX5_setsEnd_1 16 rfl rfl)
theorem dX5_setsEnd_42 : decode cX5_setsEnd 42 = .ok (.iaload, 1) := dk_46 (dk_at dksX5_setsEnd_1 19 rfl rfl)
theorem dX5_setsEnd_43 : decode cX5_setsEnd 43 = .ok (.iload_n 3, 1) := dk_29 (dk_at dksX5_setsEnd_1 20 rfl rfl)
theorem dX5_setsEnd_44 : decode cX5_setsEnd 44 = .ok (.if_icmp .ne 10, 3) := dk_160 0 10 (dk_at dksX5_setsEnd_1 21 rfl rfl)
theorem dX5_setsEnd_47 : decode cX5_setsEnd 47 = .ok (.aload_n 0, 1) := dk_42 (dk_at dksX5_setsEnd_2 0 rfl rfl)
theorem dX5_setsEnd_48 : decode cX5_setsEnd 48 = .ok (.iconst 3, 1) := dk_6 (dk_at dksX5_setsEnd_2 1 rfl rfl)
theorem dX5_setsEnd_49 : decode cX5_setsEnd 49 = .ok (.iload_n 2, 1) := dk_28 (dk_at dksX5_setsEnd_2 2 rfl rfl)
theorem dX5_setsEnd_50 : decode cX5_setsEnd 50 = .ok (.invokevirtual 103, 3) := dk_182 0 103 (dk_at dksX5_setsEnd_2 3 rfl rfl)
theorem dX5_setsEnd_53 : decode cX5_setsEnd 53 = .ok (.ireturn, 1) := dk_172 (dk_at dksX5_setsEnd_2 6 rfl rfl)
theorem dX5_setsEnd_54 : decode cX5_setsEnd 54 = .ok (.aload_n 0, 1) := dk_42 (dk_at dksX5_setsEnd_2 7 rfl rfl)
theorem dX5_setsEnd_55 : decode cX5_setsEnd 55 = .ok (.getfield 7, 3) := dk_180 0 7 (dk_at dksX5_setsEnd_2 8 rfl rfl)
theorem dX5_setsEnd_58 : decode cX5_setsEnd 58 = .ok (.iload_n 1, 1) := dk_27 (dk_at dksX5_setsEnd_2 11 rfl rfl)
theorem dX5_setsEnd_59 : decode cX5_setsEnd 59 = .ok (.iload_n 2, 1) := dk_28 (dk_at dksX5_setsEnd_2 12 rfl rfl)
theorem dX5_setsEnd_60 : decode cX5_setsEnd 60 = .ok (.invokestatic 107, 3) := dk_184 0 107 (dk_at dksX5_setsEnd_2 13 rfl rfl)
theorem dX5_setsEnd_63 : decode cX5_setsEnd 63 = .ok (.iload_n 3, 1) := dk_29 (dk_at dksX5_setsEnd_2 16 rfl rfl)
theorem dX5_setsEnd_64 : decode cX5_setsEnd 64 = .ok (.iastore, 1) := dk_79 (dk_at dksX5_setsEnd_2 17 rfl rfl)
theorem dX5_setsEnd_65 : decode cX5_setsEnd 65 = .ok (.aload_n 0, 1) := dk_42 (dk_at dksX5_setsEnd_2 18 rfl rfl)
theorem dX5_setsEnd_66 : decode cX5_setsEnd 66 = .ok (.iload_n 1, 1) := dk_27 (dk_at dksX5_setsEnd_2 19 rfl rfl)
theorem dX5_setsEnd_67 : decode cX5_setsEnd 67 = .ok (.invokevirtual 123, 3) := dk_182 0 123 (dk_at dksX5_setsEnd_2 20 rfl rfl)
theorem dX5_setsEnd_70 : decode cX5_setsEnd 70 = .ok (.ireturn, 1) := dk_172 (dk_at dksX5_setsEnd_2 23 rfl rfl)
abbrev cX5_isState : ByteArray := prog_19_method_9_code
def yX5_isState : MethodName := ⟨RX5, "isState", "(II)Z"⟩
def dkwX5_isState_1 : List UInt8 := [153, 0, 7, 4, 167, 0, 4, 3, 172]
abbrev dktX5_isState_1 : List UInt8 := dkwX5_isState_1 ++ []
def dkwX5_isState_0 : List UInt8 := [27, 184, 0, 99, 153, 0, 25, 28, 3, 42, 180, 0, 7, 3, 27, 96, 46, 4, 100, 184, 0, 95]
abbrev dktX5_isState_0 : List UInt8 := dkwX5_isState_0 ++ dktX5_isState_1
theorem dksX5_isState_0 : cX5_isState.data.toList.drop 0 = dktX5_isState_0 := by decide +kernel
theorem dksX5_isState_1 : cX5_isState.data.toList.drop 22 = dktX5_isState_1 := dk_seg dksX5_isState_0 22 rfl rfl
theorem dX5_isState_0 : decode cX5_isState 0 = .ok (.iload_n 1, 1) := dk_27 (dk_at dksX5_isState_0 0 rfl rfl)
theorem dX5_isState_1 : decode cX5_isState 1 = .ok (.invokestatic 99, 3) := dk_184 0 99 (dk_at dksX5_isState_0 1 rfl rfl)
theorem dX5_isState_4 : decode cX5_isState 4 = .ok (.ifCond .eq 25, 3) := dk_153 0 25 (dk_at dksX5_isState_0 4 rfl rfl)
theorem dX5_isState_7 : decode cX5_isState 7 = .ok (.iload_n 2, 1) := dk_28 (dk_at dksX5_isState_0 7 rfl rfl)
theorem dX5_isState_8 : decode cX5_isState 8 = .ok (.iconst 0, 1) := dk_3 (dk_at dksX5_isState_0 8 rfl rfl)
theorem dX5_isState_9 : decode cX5_isState 9 = .ok (.aload_n 0, 1) := dk_42 (dk_at dksX5_isState_0 9 rfl rfl)
theorem dX5_isState_10 : decode cX5_isState 10 = .ok (.getfield 7, 3) := dk_180 0 7 (dk_at dksX5_isState_0 10 rfl rfl)
theorem dX5_isState_13 : decode cX5_isState 13 = .ok (.iconst 0, 1) := dk_3 (dk_at dksX5_isState_0 13 rfl rfl)
theorem dX5_isState_14 : decode cX5_isState 14 = .ok (.iload_n 1, 1) := dk_27 (dk_at dksX5_isState_0 14 rfl rfl)
theorem dX5_isState_15 : decode cX5_isState 15 = .ok (.iadd, 1) := dk_96 (dk_at dksX5_isState_0 15 rfl rfl)
theorem dX5_isState_16 : decode cX5_isState 16 = .ok (.iaload, 1) := dk_46 (dk_at dksX5_isState_0 16 rfl rfl)
theorem dX5_isState_17 : decode cX5_isState 17 = .ok (.iconst 1, 1) := dk_4 (dk_at dksX5_isState_0 17 rfl rfl)
theorem dX5_isState_18 : decode cX5_isState 18 = .ok (.isub, 1) := dk_100 (dk_at dksX5_isState_0 18 rfl rfl)
theorem dX5_isState_19 : decode cX5_isState 19 = .ok (.invokestatic 95, 3) := dk_184 0 95 (dk_at dksX5_isState_0 19 rfl rfl)
theorem dX5_isState_22 : decode cX5_isState 22 = .ok (.ifCond .eq 7, 3) := dk_153 0 7 (dk_at dksX5_isState_1 0 rfl rfl)
theorem dX5_isState_25 : decode cX5_isState 25 = .ok (.iconst 1, 1) := dk_4 (dk_at dksX5_isState_1 3 rfl rfl)
theorem dX5_isState_26 : decode cX5_isState 26 = .ok (.goto 4, 3) := dk_167 0 4 (dk_at dksX5_isState_1 4 rfl rfl)
theorem dX5_isState_29 : decode cX5_isState 29 = .ok (.iconst 0, 1) := dk_3 (dk_at dksX5_isState_1 7 rfl rfl)
theorem dX5_isState_30 : decode cX5_isState 30 = .ok (.ireturn, 1) := dk_172 (dk_at dksX5_isState_1 8 rfl rfl)
abbrev cX5_endsOf : ByteArray := prog_19_method_15_code
def yX5_endsOf : MethodName := ⟨RX5, "endsOf", "(I)I"⟩
def dkwX5_endsOf_1 : List UInt8 := [184, 0, 107, 46, 156, 0, 7, 3, 167, 0, 4, 4, 96, 61, 132, 3, 1, 167, 255, 220, 28, 172]
abbrev dktX5_endsOf_1 : List UInt8 := dkwX5_endsOf_1 ++ []
def dkwX5_endsOf_0 : List UInt8 := [3, 61, 3, 62, 29, 42, 180, 0, 7, 3, 27, 96, 46, 162, 0, 30, 28, 42, 180, 0, 7, 27, 29]
abbrev dktX5_endsOf_0 : List UInt8 := dkwX5_endsOf_0 ++ dktX5_endsOf_1
theorem dksX5_endsOf_0 : cX5_endsOf.data.toList.drop 0 = dktX5_endsOf_0 := by decide +kernel
theorem dksX5_endsOf_1 : cX5_endsOf.data.toList.drop 23 = dktX5_endsOf_1 := dk_seg dksX5_endsOf_0 23 rfl rfl
theorem dX5_endsOf_0 : decode cX5_endsOf 0 = .ok (.iconst 0, 1) := dk_3 (dk_at dksX5_endsOf_0 0 rfl rfl)
theorem dX5_endsOf_1 : decode cX5_endsOf 1 = .ok (.istore_n 2, 1) := dk_61 (dk_at dksX5_endsOf_0 1 rfl rfl)
theorem dX5_endsOf_2 : decode cX5_endsOf 2 = .ok (.iconst 0, 1) := dk_3 (dk_at dksX5_endsOf_0 2 rfl rfl)
theorem dX5_endsOf_3 : decode cX5_endsOf 3 = .ok (.istore_n 3, 1) := dk_62 (dk_at dksX5_endsOf_0 3 rfl rfl)
theorem dX5_endsOf_4 : decode cX5_endsOf 4 = .ok (.iload_n 3, 1) := dk_29 (dk_at dksX5_endsOf_0 4 rfl rfl)
theorem dX5_endsOf_5 : decode cX5_endsOf 5 = .ok (.aload_n 0, 1) := dk_42 (dk_at dksX5_endsOf_0 5 rfl rfl)
theorem dX5_endsOf_6 : decode cX5_endsOf 6 = .ok (.getfield 7, 3) := dk_180 0 7 (dk_at dksX5_endsOf_0 6 rfl rfl)
theorem dX5_endsOf_9 : decode cX5_endsOf 9 = .ok (.iconst 0, 1) := dk_3 (dk_at dksX5_endsOf_0 9 rfl rfl)
theorem dX5_endsOf_10 : decode cX5_endsOf 10 = .ok (.iload_n 1, 1) := dk_27 (dk_at dksX5_endsOf_0 10 rfl rfl)
theorem dX5_endsOf_11 : decode cX5_endsOf 11 = .ok (.iadd, 1) := dk_96 (dk_at dksX5_endsOf_0 11 rfl rfl)
theorem dX5_endsOf_12 : decode cX5_endsOf 12 = .ok (.iaload, 1) := dk_46 (dk_at dksX5_endsOf_0 12 rfl rfl)
theorem dX5_endsOf_13 : decode cX5_endsOf 13 = .ok (.if_icmp .ge 30, 3) := dk_162 0 30 (dk_at dksX5_endsOf_0 13 rfl rfl)
theorem dX5_endsOf_16 : decode cX5_endsOf 16 = .ok (.iload_n 2, 1) := dk_28 (dk_at dksX5_endsOf_0 16 rfl rfl)
theorem dX5_endsOf_17 : decode cX5_endsOf 17 = .ok (.aload_n 0, 1) := dk_42 (dk_at dksX5_endsOf_0 17 rfl rfl)
theorem dX5_endsOf_18 : decode cX5_endsOf 18 = .ok (.getfield 7, 3) := dk_180 0 7 (dk_at dksX5_endsOf_0 18 rfl rfl)
theorem dX5_endsOf_21 : decode cX5_endsOf 21 = .ok (.iload_n 1, 1) := dk_27 (dk_at dksX5_endsOf_0 21 rfl rfl)
theorem dX5_endsOf_22 : decode cX5_endsOf 22 = .ok (.iload_n 3, 1) := dk_29 (dk_at dksX5_endsOf_0 22 rfl rfl)
theorem dX5_endsOf_23 : decode cX5_endsOf 23 = .ok (.invokestatic 107, 3) := dk_184 0 107 (dk_at dksX5_endsOf_1 0 rfl rfl)
theorem dX5_endsOf_26 : decode cX5_endsOf 26 = .ok (.iaload, 1) := dk_46 (dk_at dksX5_endsOf_1 3 rfl rfl)
theorem dX5_endsOf_27 : decode cX5_endsOf 27 = .ok (.ifCond .ge 7, 3) := dk_156 0 7 (dk_at dksX5_endsOf_1 4 rfl rfl)
theorem dX5_endsOf_30 : decode cX5_endsOf 30 = .ok (.iconst 0, 1) := dk_3 (dk_at dksX5_endsOf_1 7 rfl rfl)
theorem dX5_endsOf_31 : decode cX5_endsOf 31 = .ok (.goto 4, 3) := dk_167 0 4 (dk_at dksX5_endsOf_1 8 rfl rfl)
theorem dX5_endsOf_34 : decode cX5_endsOf 34 = .ok (.iconst 1, 1) := dk_4 (dk_at dksX5_endsOf_1 11 rfl rfl)
theorem dX5_endsOf_35 : decode cX5_endsOf 35 = .ok (.iadd, 1) := dk_96 (dk_at dksX5_endsOf_1 12 rfl rfl)
theorem dX5_endsOf_36 : decode cX5_endsOf 36 = .ok (.istore_n 2, 1) := dk_61 (dk_at dksX5_endsOf_1 13 rfl rfl)
theorem dX5_endsOf_37 : decode cX5_endsOf 37 = .ok (.iinc 3 1, 3) := dk_132 3 1 (dk_at dksX5_endsOf_1 14 rfl rfl)
theorem dX5_endsOf_40 : decode cX5_endsOf 40 = .ok (.goto (-36), 3) := dk_167 255 220 (dk_at dksX5_endsOf_1 17 rfl rfl)
theorem dX5_endsOf_43 : decode cX5_endsOf 43 = .ok (.iload_n 2, 1) := dk_28 (dk_at dksX5_endsOf_1 20 rfl rfl)
theorem dX5_endsOf_44 : decode cX5_endsOf 44 = .ok (.ireturn, 1) := dk_172 (dk_at dksX5_endsOf_1 21 rfl rfl)
abbrev cX5_arc : ByteArray := prog_19_method_20_code
def yX5_arc : MethodName := ⟨RX5, "arc", "(IIIIII)I"⟩
def dkwX5_arc_0 : List UInt8 := [42, 182, 0, 110, 42, 42, 27, 28, 29, 21, 4, 21, 5, 21, 6, 182, 0, 137, 182, 0, 116, 172]
abbrev dktX5_arc_0 : List UInt8 := dkwX5_arc_0 ++ []
theorem dksX5_arc_0 : cX5_arc.data.toList.drop 0 = dktX5_arc_0 := by decide +kernel
theorem dX5_arc_0 : decode cX5_arc 0 = .ok (.aload_n 0, 1) := dk_42 (dk_at dksX5_arc_0 0 rfl rfl)
theorem dX5_arc_1 : decode cX5_arc 1 = .ok (.invokevirtual 110, 3) := dk_182 0 110 (dk_at dksX5_arc_0 1 rfl rfl)
theorem dX5_arc_4 : decode cX5_arc 4 = .ok (.aload_n 0, 1) := dk_42 (dk_at dksX5_arc_0 4 rfl rfl)
theorem dX5_arc_5 : decode cX5_arc 5 = .ok (.aload_n 0, 1) := dk_42 (dk_at dksX5_arc_0 5 rfl rfl)
theorem dX5_arc_6 : decode cX5_arc 6 = .ok (.iload_n 1, 1) := dk_27 (dk_at dksX5_arc_0 6 rfl rfl)
theorem dX5_arc_7 : decode cX5_arc 7 = .ok (.iload_n 2, 1) := dk_28 (dk_at dksX5_arc_0 7 rfl rfl)
theorem dX5_arc_8 : decode cX5_arc 8 = .ok (.iload_n 3, 1) := dk_29 (dk_at dksX5_arc_0 8 rfl rfl)
theorem dX5_arc_9 : decode cX5_arc 9 = .ok (.iload 4, 2) := dk_21 4 (dk_at dksX5_arc_0 9 rfl rfl)
theorem dX5_arc_11 : decode cX5_arc 11 = .ok (.iload 5, 2) := dk_21 5 (dk_at dksX5_arc_0 11 rfl rfl)
theorem dX5_arc_13 : decode cX5_arc 13 = .ok (.iload 6, 2) := dk_21 6 (dk_at dksX5_arc_0 13 rfl rfl)
theorem dX5_arc_15 : decode cX5_arc 15 = .ok (.invokevirtual 137, 3) := dk_182 0 137 (dk_at dksX5_arc_0 15 rfl rfl)
theorem dX5_arc_18 : decode cX5_arc 18 = .ok (.invokevirtual 116, 3) := dk_182 0 116 (dk_at dksX5_arc_0 18 rfl rfl)
theorem dX5_arc_21 : decode cX5_arc 21 = .ok (.ireturn, 1) := dk_172 (dk_at dksX5_arc_0 21 rfl rfl)
abbrev cX5_tellsArc : ByteArray := prog_19_method_19_code
def yX5_tellsArc : MethodName := ⟨RX5, "tellsArc", "(IIIIII)I"⟩
def dkwX5_tellsArc_8 : List UInt8 := [92, 46, 4, 96, 79, 42, 180, 0, 7, 16, 14, 92, 46, 4, 96, 79, 21, 8, 172]
abbrev dktX5_tellsArc_8 : List UInt8 := dkwX5_tellsArc_8 ++ []
def dkwX5_tellsArc_7 : List UInt8 := [21, 5, 79, 42, 180, 0, 7, 27, 21, 8, 7, 184, 0, 130, 21, 6, 79, 42, 180, 0, 7, 5, 27, 96]
abbrev dktX5_tellsArc_7 : List UInt8 := dkwX5_tellsArc_7 ++ dktX5_tellsArc_8
def dkwX5_tellsArc_6 : List UInt8 := [180, 0, 7, 27, 21, 8, 5, 184, 0, 130, 21, 4, 79, 42, 180, 0, 7, 27, 21, 8, 6, 184, 0, 130]
abbrev dktX5_tellsArc_6 : List UInt8 := dkwX5_tellsArc_6 ++ dktX5_tellsArc_7
def dkwX5_tellsArc_5 : List UInt8 := [21, 8, 3, 184, 0, 130, 28, 79, 42, 180, 0, 7, 27, 21, 8, 4, 184, 0, 130, 29, 79, 42]
abbrev dktX5_tellsArc_5 : List UInt8 := dkwX5_tellsArc_5 ++ dktX5_tellsArc_6
def dkwX5_tellsArc_4 : List UInt8 := [182, 0, 103, 172, 21, 8, 16, 12, 160, 0, 11, 42, 4, 16, 12, 182, 0, 103, 172, 42, 180, 0, 7, 27]
abbrev dktX5_tellsArc_4 : List UInt8 := dkwX5_tellsArc_4 ++ dktX5_tellsArc_5
def dkwX5_tellsArc_3 : List UInt8 := [182, 0, 133, 54, 7, 42, 180, 0, 7, 5, 27, 96, 46, 54, 8, 21, 7, 155, 0, 11, 42, 5, 21, 7]
abbrev dktX5_tellsArc_3 : List UInt8 := dkwX5_tellsArc_3 ++ dktX5_tellsArc_4
def dkwX5_tellsArc_2 : List UInt8 := [16, 9, 184, 0, 95, 154, 0, 10, 42, 16, 244, 182, 0, 84, 172, 42, 27, 28, 29, 21, 4, 21, 5]
abbrev dktX5_tellsArc_2 : List UInt8 := dkwX5_tellsArc_2 ++ dktX5_tellsArc_3
def dkwX5_tellsArc_1 : List UInt8 := [172, 21, 4, 3, 7, 184, 0, 95, 153, 0, 24, 21, 5, 3, 7, 184, 0, 95, 153, 0, 14, 21, 6, 3]
abbrev dktX5_tellsArc_1 : List UInt8 := dkwX5_tellsArc_1 ++ dktX5_tellsArc_2
def dkwX5_tellsArc_0 : List UInt8 := [42, 27, 28, 182, 0, 119, 153, 0, 12, 42, 27, 29, 182, 0, 119, 154, 0, 10, 42, 16, 245, 182, 0, 84]
abbrev dktX5_tellsArc_0 : List UInt8 := dkwX5_tellsArc_0 ++ dktX5_tellsArc_1
theorem dksX5_tellsArc_0 : cX5_tellsArc.data.toList.drop 0 = dktX5_tellsArc_0 := by decide +kernel
theorem dksX5_tellsArc_1 : cX5_tellsArc.data.toList.drop 24 = dktX5_tellsArc_1 := dk_seg dksX5_tellsArc_0 24 rfl rfl
theorem dksX5_tellsArc_2 : cX5_tellsArc.data.toList.drop 48 = dktX5_tellsArc_2 := dk_seg dksX5_tellsArc_1 24 rfl rfl
theorem dksX5_tellsArc_3 : cX5_tellsArc.data.toList.drop 71 = dktX5_tellsArc_3 := dk_seg dksX5_tellsArc_2 23 rfl rfl
theorem dksX5_tellsArc_4 : cX5_tellsArc.data.toList.drop 95 = dktX5_tellsArc_4 := dk_seg dksX5_tellsArc_3 24 rfl rfl
theorem dksX5_tellsArc_5 : cX5_tellsArc.data.toList.drop 119 = dktX5_tellsArc_5 := dk_seg dksX5_tellsArc_4 24 rfl rfl
theorem dksX5_tellsArc_6 : cX5_tellsArc.data.toList.drop 141 = dktX5_tellsArc_6 := dk_seg dksX5_tellsArc_5 22 rfl rfl
theorem dksX5_tellsArc_7 : cX5_tellsArc.data.toList.drop 165 = dktX5_tellsArc_7 := dk_seg dksX5_tellsArc_6 24 rfl rfl
theorem dksX5_tellsArc_8 : cX5_tellsArc.data.toList.drop 189 = dktX5_tellsArc_8 := dk_seg dksX5_tellsArc_7 24 rfl rfl
theorem dX5_tellsArc_0 : decode cX5_tellsArc 0 = .ok (.aload_n 0, 1) := dk_42 (dk_at dksX5_tellsArc_0 0 rfl rfl)
theorem dX5_tellsArc_1 : decode cX5_tellsArc 1 = .ok (.iload_n 1, 1) := dk_27 (dk_at dksX5_tellsArc_0 1 rfl rfl)
theorem dX5_tellsArc_2 : decode cX5_tellsArc 2 = .ok (.iload_n 2, 1) := dk_28 (dk_at dksX5_tellsArc_0 2 rfl rfl)
theorem dX5_tellsArc_3 : decode cX5_tellsArc 3 = .ok (.invokevirtual 119, 3) := dk_182 0 119 (dk_at dksX5_tellsArc_0 3 rfl rfl)
theorem dX5_tellsArc_6 : decode cX5_tellsArc 6 = .ok (.ifCond .eq 12, 3) := dk_153 0 12 (dk_at dksX5_tellsArc_0 6 rfl rfl)
theorem dX5_tellsArc_9 : decode cX5_tellsArc 9 = .ok (.aload_n 0, 1) := dk_42 (dk_at dksX5_tellsArc_0 9 rfl rfl)
theorem dX5_tellsArc_10 : decode cX5_tellsArc 10 = .ok (.iload_n 1, 1) := dk_27 (dk_at dksX5_tellsArc_0 10 rfl rfl)
theorem dX5_tellsArc_11 : decode cX5_tellsArc 11 = .ok (.iload_n 3, 1) := dk_29 (dk_at dksX5_tellsArc_0 11 rfl rfl)
theorem dX5_tellsArc_12 : decode cX5_tellsArc 12 = .ok (.invokevirtual 119, 3) := dk_182 0 119 (dk_at dksX5_tellsArc_0 12 rfl rfl)
theorem dX5_tellsArc_15 : decode cX5_tellsArc 15 = .ok (.ifCond .ne 10, 3) := dk_154 0 10 (dk_at dksX5_tellsArc_0 15 rfl rfl)
theorem dX5_tellsArc_18 : decode cX5_tellsArc 18 = .ok (.aload_n 0, 1) := dk_42 (dk_at dksX5_tellsArc_0 18 rfl rfl)
theorem dX5_tellsArc_19 : decode cX5_tellsArc 19 = .ok (.bipush (-11), 2) := dk_16 245 (dk_at dksX5_tellsArc_0 19 rfl rfl)
theorem dX5_tellsArc_21 : decode cX5_tellsArc 21 = .ok (.invokevirtual 84, 3) := dk_182 0 84 (dk_at dksX5_tellsArc_0 21 rfl rfl)
theorem dX5_tellsArc_24 : decode cX5_tellsArc 24 = .ok (.ireturn, 1) := dk_172 (dk_at dksX5_tellsArc_1 0 rfl rfl)
theorem dX5_tellsArc_25 : decode cX5_tellsArc 25 = .ok (.iload 4, 2) := dk_21 4 (dk_at dksX5_tellsArc_1 1 rfl rfl)
theorem dX5_tellsArc_27 : decode cX5_tellsArc 27 = .ok (.iconst 0, 1) := dk_3 (dk_at dksX5_tellsArc_1 3 rfl rfl)
theorem dX5_tellsArc_28 : decode cX5_tellsArc 28 = .ok (.iconst 4, 1) := dk_7 (dk_at dksX5_tellsArc_1 4 rfl rfl)
theorem dX5_tellsArc_29 : decode cX5_tellsArc 29 = .ok (.invokestatic 95, 3) := dk_184 0 95 (dk_at dksX5_tellsArc_1 5 rfl rfl)
theorem dX5_tellsArc_32 : decode cX5_tellsArc 32 = .ok (.ifCond .eq 24, 3) := dk_153 0 24 (dk_at dksX5_tellsArc_1 8 rfl rfl)
theorem dX5_tellsArc_35 : decode cX5_tellsArc 35 = .ok (.iload 5, 2) := dk_21 5 (dk_at dksX5_tellsArc_1 11 rfl rfl)
theorem dX5_tellsArc_37 : decode cX5_tellsArc 37 = .ok (.iconst 0, 1) := dk_3 (dk_at dksX5_tellsArc_1 13 rfl rfl)
theorem dX5_tellsArc_38 : decode cX5_tellsArc 38 = .ok (.iconst 4, 1) := dk_7 (dk_at dksX5_tellsArc_1 14 rfl rfl)
theorem dX5_tellsArc_39 : decode cX5_tellsArc 39 = .ok (.invokestatic 95, 3) := dk_184 0 95 (dk_at dksX5_tellsArc_1 15 rfl rfl)
theorem dX5_tellsArc_42 : decode cX5_tellsArc 42 = .ok (.ifCond .eq 14, 3) := dk_153 0 14 (dk_at dksX5_tellsArc_1 18 rfl rfl)
theorem dX5_tellsArc_45 : decode cX5_tellsArc 45 = .ok (.iload 6, 2) := dk_21 6 (dk_at dksX5_tellsArc_1 21 rfl rfl)
theorem dX5_tellsArc_47 : decode cX5_tellsArc 47 = .ok (.iconst 0, 1) := dk_3 (dk_at dksX5_tellsArc_1 23 rfl rfl)
theorem dX5_tellsArc_48 : decode cX5_tellsArc 48 = .ok (.bipush 9, 2) := dk_16 9 (dk_at dksX5_tellsArc_2 0 rfl rfl)
theorem dX5_tellsArc_50 : decode cX5_tellsArc 50 = .ok (.invokestatic 95, 3) := dk_184 0 95 (dk_at dksX5_tellsArc_2 2 rfl rfl)
theorem dX5_tellsArc_53 : decode cX5_tellsArc 53 = .ok (.ifCond .ne 10, 3) := dk_154 0 10 (dk_at dksX5_tellsArc_2 5 rfl rfl)
theorem dX5_tellsArc_56 : decode cX5_tellsArc 56 = .ok (.aload_n 0, 1) := dk_42 (dk_at dksX5_tellsArc_2 8 rfl rfl)
theorem dX5_tellsArc_57 : decode cX5_tellsArc 57 = .ok (.bipush (-12), 2) := dk_16 244 (dk_at dksX5_tellsArc_2 9 rfl rfl)
theorem dX5_tellsArc_59 : decode cX5_tellsArc 59 = .ok (.invokevirtual 84, 3) := dk_182 0 84 (dk_at dksX5_tellsArc_2 11 rfl rfl)
theorem dX5_tellsArc_62 : decode cX5_tellsArc 62 = .ok (.ireturn, 1) := dk_172 (dk_at dksX5_tellsArc_2 14 rfl rfl)
theorem dX5_tellsArc_63 : decode cX5_tellsArc 63 = .ok (.aload_n 0, 1) := dk_42 (dk_at dksX5_tellsArc_2 15 rfl rfl)
theorem dX5_tellsArc_64 : decode cX5_tellsArc 64 = .ok (.iload_n 1, 1) := dk_27 (dk_at dksX5_tellsArc_2 16 rfl rfl)
theorem dX5_tellsArc_65 : decode cX5_tellsArc 65 = .ok (.iload_n 2, 1) := dk_28 (dk_at dksX5_tellsArc_2 17 rfl rfl)
theorem dX5_tellsArc_66 : decode cX5_tellsArc 66 = .ok (.iload_n 3, 1) := dk_29 (dk_at dksX5_tellsArc_2 18 rfl rfl)
theorem dX5_tellsArc_67 : decode cX5_tellsArc 67 = .ok (.iload 4, 2) := dk_21 4 (dk_at dksX5_tellsArc_2 19 rfl rfl)
theorem dX5_tellsArc_69 : decode cX5_tellsArc 69 = .ok (.iload 5, 2) := dk_21 5 (dk_at dksX5_tellsArc_2 21 rfl rfl)
theorem dX5_tellsArc_71 : decode cX5_tellsArc 71 = .ok (.invokevirtual 133, 3) := dk_182 0 133 (dk_at dksX5_tellsArc_3 0 rfl rfl)
theorem dX5_tellsArc_74 : decode cX5_tellsArc 74 = .ok (.istore 7, 2) := dk_54 7 (dk_at dksX5_tellsArc_3 3 rfl rfl)
theorem dX5_tellsArc_76 : decode cX5_tellsArc 76 = .ok (.aload_n 0, 1) := dk_42 (dk_at dksX5_tellsArc_3 5 rfl rfl)
theorem dX5_tellsArc_77 : decode cX5_tellsArc 77 = .ok (.getfield 7, 3) := dk_180 0 7 (dk_at dksX5_tellsArc_3 6 rfl rfl)
theorem dX5_tellsArc_80 : decode cX5_tellsArc 80 = .ok (.iconst 2, 1) := dk_5 (dk_at dksX5_tellsArc_3 9 rfl rfl)
theorem dX5_tellsArc_81 : decode cX5_tellsArc 81 = .ok (.iload_n 1, 1) := dk_27 (dk_at dksX5_tellsArc_3 10 rfl rfl)
theorem dX5_tellsArc_82 : decode cX5_tellsArc 82 = .ok (.iadd, 1) := dk_96 (dk_at dksX5_tellsArc_3 11 rfl rfl)
theorem dX5_tellsArc_83 : decode cX5_tellsArc 83 = .ok (.iaload, 1) := dk_46 (dk_at dksX5_tellsArc_3 12 rfl rfl)
theorem dX5_tellsArc_84 : decode cX5_tellsArc 84 = .ok (.istore 8, 2) := dk_54 8 (dk_at dksX5_tellsArc_3 13 rfl rfl)
theorem dX5_tellsArc_86 : decode cX5_tellsArc 86 = .ok (.iload 7, 2) := dk_21 7 (dk_at dksX5_tellsArc_3 15 rfl rfl)
theorem dX5_tellsArc_88 : decode cX5_tellsArc 88 = .ok (.ifCond .lt 11, 3) := dk_155 0 11 (dk_at dksX5_tellsArc_3 17 rfl rfl)
theorem dX5_tellsArc_91 : decode cX5_tellsArc 91 = .ok (.aload_n 0, 1) := dk_42 (dk_at dksX5_tellsArc_3 20 rfl rfl)
theorem dX5_tellsArc_92 : decode cX5_tellsArc 92 = .ok (.iconst 2, 1) := dk_5 (dk_at dksX5_tellsArc_3 21 rfl rfl)
theorem dX5_tellsArc_93 : decode cX5_tellsArc 93 = .ok (.iload 7, 2) := dk_21 7 (dk_at dksX5_tellsArc_3 22 rfl rfl)
theorem dX5_tellsArc_95 : decode cX5_tellsArc 95 = .ok (.invokevirtual 103, 3) := dk_182 0 103 (dk_at dksX5_tellsArc_4 0 rfl rfl)
theorem dX5_tellsArc_98 : decode cX5_tellsArc 98 = .ok (.ireturn, 1) := dk_172 (dk_at dksX5_tellsArc_4 3 rfl rfl)
theorem dX5_tellsArc_99 : decode cX5_tellsArc 99 = .ok (.iload 8, 2) := dk_21 8 (dk_at dksX5_tellsArc_4 4 rfl rfl)
theorem dX5_tellsArc_101 : decode cX5_tellsArc 101 = .ok (.bipush 12, 2) := dk_16 12 (dk_at dksX5_tellsArc_4 6 rfl rfl)
theorem dX5_tellsArc_103 : decode cX5_tellsArc 103 = .ok (.if_icmp .ne 11, 3) := dk_160 0 11 (dk_at dksX5_tellsArc_4 8 rfl rfl)
theorem dX5_tellsArc_106 : decode cX5_tellsArc 106 = .ok (.aload_n 0, 1) := dk_42 (dk_at dksX5_tellsArc_4 11 rfl rfl)
theorem dX5_tellsArc_107 : decode cX5_tellsArc 107 = .ok (.iconst 1, 1) := dk_4 (dk_at dksX5_tellsArc_4 12 rfl rfl)
theorem dX5_tellsArc_108 : decode cX5_tellsArc 108 = .ok (.bipush 12, 2) := dk_16 12 (dk_at dksX5_tellsArc_4 13 rfl rfl)
theorem dX5_tellsArc_110 : decode cX5_tellsArc 110 = .ok (.invokevirtual 103, 3) := dk_182 0 103 (dk_at dksX5_tellsArc_4 15 rfl rfl)
theorem dX5_tellsArc_113 : decode cX5_tellsArc 113 = .ok (.ireturn, 1) := dk_172 (dk_at dksX5_tellsArc_4 18 rfl rfl)
theorem dX5_tellsArc_114 : decode cX5_tellsArc 114 = .ok (.aload_n 0, 1) := dk_42 (dk_at dksX5_tellsArc_4 19 rfl rfl)
theorem dX5_tellsArc_115 : decode cX5_tellsArc 115 = .ok (.getfield 7, 3) := dk_180 0 7 (dk_at dksX5_tellsArc_4 20 rfl rfl)
theorem dX5_tellsArc_118 : decode cX5_tellsArc 118 = .ok (.iload_n 1, 1) := dk_27 (dk_at dksX5_tellsArc_4 23 rfl rfl)
theorem dX5_tellsArc_119 : decode cX5_tellsArc 119 = .ok (.iload 8, 2) := dk_21 8 (dk_at dksX5_tellsArc_5 0 rfl rfl)
theorem dX5_tellsArc_121 : decode cX5_tellsArc 121 = .ok (.iconst 0, 1) := dk_3 (dk_at dksX5_tellsArc_5 2 rfl rfl)
theorem dX5_tellsArc_122 : decode cX5_tellsArc 122 = .ok (.invokestatic 130, 3) := dk_184 0 130 (dk_at dksX5_tellsArc_5 3 rfl rfl)
theorem dX5_tellsArc_125 : decode cX5_tellsArc 125 = .ok (.iload_n 2, 1) := dk_28 (dk_at dksX5_tellsArc_5 6 rfl rfl)
theorem dX5_tellsArc_126 : decode cX5_tellsArc 126 = .ok (.iastore, 1) := dk_79 (dk_at dksX5_tellsArc_5 7 rfl rfl)
theorem dX5_tellsArc_127 : decode cX5_tellsArc 127 = .ok (.aload_n 0, 1) := dk_42 (dk_at dksX5_tellsArc_5 8 rfl rfl)
theorem dX5_tellsArc_128 : decode cX5_tellsArc 128 = .ok (.getfield 7, 3) := dk_180 0 7 (dk_at dksX5_tellsArc_5 9 rfl rfl)
theorem dX5_tellsArc_131 : decode cX5_tellsArc 131 = .ok (.iload_n 1, 1) := dk_27 (dk_at dksX5_tellsArc_5 12 rfl rfl)
theorem dX5_tellsArc_132 : decode cX5_tellsArc 132 = .ok (.iload 8, 2) := dk_21 8 (dk_at dksX5_tellsArc_5 13 rfl rfl)
theorem dX5_tellsArc_134 : decode cX5_tellsArc 134 = .ok (.iconst 1, 1) := dk_4 (dk_at dksX5_tellsArc_5 15 rfl rfl)
theorem dX5_tellsArc_135 : decode cX5_tellsArc 135 = .ok (.invokestatic 130, 3) := dk_184 0 130 (dk_at dksX5_tellsArc_5 16 rfl rfl)
theorem dX5_tellsArc_138 : decode cX5_tellsArc 138 = .ok (.iload_n 3, 1) := dk_29 (dk_at dksX5_tellsArc_5 19 rfl rfl)
theorem dX5_tellsArc_139 : decode cX5_tellsArc 139 = .ok (.iastore, 1) := dk_79 (dk_at dksX5_tellsArc_5 20 rfl rfl)
theorem dX5_tellsArc_140 : decode cX5_tellsArc 140 = .ok (.aload_n 0, 1) := dk_42 (dk_at dksX5_tellsArc_5 21 rfl rfl)
theorem dX5_tellsArc_141 : decode cX5_tellsArc 141 = .ok (.getfield 7, 3) := dk_180 0 7 (dk_at dksX5_tellsArc_6 0 rfl rfl)
theorem dX5_tellsArc_144 : decode cX5_tellsArc 144 = .ok (.iload_n 1, 1) := dk_27 (dk_at dksX5_tellsArc_6 3 rfl rfl)
theorem dX5_tellsArc_145 : decode cX5_tellsArc 145 = .ok (.iload 8, 2) := dk_21 8 (dk_at dksX5_tellsArc_6 4 rfl rfl)
theorem dX5_tellsArc_147 : decode cX5_tellsArc 147 = .ok (.iconst 2, 1) := dk_5 (dk_at dksX5_tellsArc_6 6 rfl rfl)
theorem dX5_tellsArc_148 : decode cX5_tellsArc 148 = .ok (.invokestatic 130, 3) := dk_184 0 130 (dk_at dksX5_tellsArc_6 7 rfl rfl)
theorem dX5_tellsArc_151 : decode cX5_tellsArc 151 = .ok (.iload 4, 2) := dk_21 4 (dk_at dksX5_tellsArc_6 10 rfl rfl)
theorem dX5_tellsArc_153 : decode cX5_tellsArc 153 = .ok (.iastore, 1) := dk_79 (dk_at dksX5_tellsArc_6 12 rfl rfl)
theorem dX5_tellsArc_154 : decode cX5_tellsArc 154 = .ok (.aload_n 0, 1) := dk_42 (dk_at dksX5_tellsArc_6 13 rfl rfl)
theorem dX5_tellsArc_155 : decode cX5_tellsArc 155 = .ok (.getfield 7, 3) := dk_180 0 7 (dk_at dksX5_tellsArc_6 14 rfl rfl)
theorem dX5_tellsArc_158 : decode cX5_tellsArc 158 = .ok (.iload_n 1, 1) := dk_27 (dk_at dksX5_tellsArc_6 17 rfl rfl)
theorem dX5_tellsArc_159 : decode cX5_tellsArc 159 = .ok (.iload 8, 2) := dk_21 8 (dk_at dksX5_tellsArc_6 18 rfl rfl)
theorem dX5_tellsArc_161 : decode cX5_tellsArc 161 = .ok (.iconst 3, 1) := dk_6 (dk_at dksX5_tellsArc_6 20 rfl rfl)
theorem dX5_tellsArc_162 : decode cX5_tellsArc 162 = .ok (.invokestatic 130, 3) := dk_184 0 130 (dk_at dksX5_tellsArc_6 21 rfl rfl)
theorem dX5_tellsArc_165 : decode cX5_tellsArc 165 = .ok (.iload 5, 2) := dk_21 5 (dk_at dksX5_tellsArc_7 0 rfl rfl)
theorem dX5_tellsArc_167 : decode cX5_tellsArc 167 = .ok (.iastore, 1) := dk_79 (dk_at dksX5_tellsArc_7 2 rfl rfl)
theorem dX5_tellsArc_168 : decode cX5_tellsArc 168 = .ok (.aload_n 0, 1) := dk_42 (dk_at dksX5_tellsArc_7 3 rfl rfl)
theorem dX5_tellsArc_169 : decode cX5_tellsArc 169 = .ok (.getfield 7, 3) := dk_180 0 7 (dk_at dksX5_tellsArc_7 4 rfl rfl)
theorem dX5_tellsArc_172 : decode cX5_tellsArc 172 = .ok (.iload_n 1, 1) := dk_27 (dk_at dksX5_tellsArc_7 7 rfl rfl)
theorem dX5_tellsArc_173 : decode cX5_tellsArc 173 = .ok (.iload 8, 2) := dk_21 8 (dk_at dksX5_tellsArc_7 8 rfl rfl)
theorem dX5_tellsArc_175 : decode cX5_tellsArc 175 = .ok (.iconst 4, 1) := dk_7 (dk_at dksX5_tellsArc_7 10 rfl rfl)
theorem dX5_tellsArc_176 : decode cX5_tellsArc 176 = .ok (.invokestatic 130, 3) := dk_184 0 130 (dk_at dksX5_tellsArc_7 11 rfl rfl)
theorem dX5_tellsArc_179 : decode cX5_tellsArc 179 = .ok (.iload 6, 2) := dk_21 6 (dk_at dksX5_tellsArc_7 14 rfl rfl)
theorem dX5_tellsArc_181 : decode cX5_tellsArc 181 = .ok (.iastore, 1) := dk_79 (dk_at dksX5_tellsArc_7 16 rfl rfl)
theorem dX5_tellsArc_182 : decode cX5_tellsArc 182 = .ok (.aload_n 0, 1) := dk_42 (dk_at dksX5_tellsArc_7 17 rfl rfl)
theorem dX5_tellsArc_183 : decode cX5_tellsArc 183 = .ok (.getfield 7, 3) := dk_180 0 7 (dk_at dksX5_tellsArc_7 18 rfl rfl)
theorem dX5_tellsArc_186 : decode cX5_tellsArc 186 = .ok (.iconst 2, 1) := dk_5 (dk_at dksX5_tellsArc_7 21 rfl rfl)
theorem dX5_tellsArc_187 : decode cX5_tellsArc 187 = .ok (.iload_n 1, 1) := dk_27 (dk_at dksX5_tellsArc_7 22 rfl rfl)
theorem dX5_tellsArc_188 : decode cX5_tellsArc 188 = .ok (.iadd, 1) := dk_96 (dk_at dksX5_tellsArc_7 23 rfl rfl)
theorem dX5_tellsArc_189 : decode cX5_tellsArc 189 = .ok (.dup2, 1) := dk_92 (dk_at dksX5_tellsArc_8 0 rfl rfl)
theorem dX5_tellsArc_190 : decode cX5_tellsArc 190 = .ok (.iaload, 1) := dk_46 (dk_at dksX5_tellsArc_8 1 rfl rfl)
theorem dX5_tellsArc_191 : decode cX5_tellsArc 191 = .ok (.iconst 1, 1) := dk_4 (dk_at dksX5_tellsArc_8 2 rfl rfl)
theorem dX5_tellsArc_192 : decode cX5_tellsArc 192 = .ok (.iadd, 1) := dk_96 (dk_at dksX5_tellsArc_8 3 rfl rfl)
theorem dX5_tellsArc_193 : decode cX5_tellsArc 193 = .ok (.iastore, 1) := dk_79 (dk_at dksX5_tellsArc_8 4 rfl rfl)
theorem dX5_tellsArc_194 : decode cX5_tellsArc 194 = .ok (.aload_n 0, 1) := dk_42 (dk_at dksX5_tellsArc_8 5 rfl rfl)
theorem dX5_tellsArc_195 : decode cX5_tellsArc 195 = .ok (.getfield 7, 3) := dk_180 0 7 (dk_at dksX5_tellsArc_8 6 rfl rfl)
theorem dX5_tellsArc_198 : decode cX5_tellsArc 198 = .ok (.bipush 14, 2) := dk_16 14 (dk_at dksX5_tellsArc_8 9 rfl rfl)
theorem dX5_tellsArc_200 : decode cX5_tellsArc 200 = .ok (.dup2, 1) := dk_92 (dk_at dksX5_tellsArc_8 11 rfl rfl)
theorem dX5_tellsArc_201 : decode cX5_tellsArc 201 = .ok (.iaload, 1) := dk_46 (dk_at dksX5_tellsArc_8 12 rfl rfl)
theorem dX5_tellsArc_202 : decode cX5_tellsArc 202 = .ok (.iconst 1, 1) := dk_4 (dk_at dksX5_tellsArc_8 13 rfl rfl)
theorem dX5_tellsArc_203 : decode cX5_tellsArc 203 = .ok (.iadd, 1) := dk_96 (dk_at dksX5_tellsArc_8 14 rfl rfl)
theorem dX5_tellsArc_204 : decode cX5_tellsArc 204 = .ok (.iastore, 1) := dk_79 (dk_at dksX5_tellsArc_8 15 rfl rfl)
theorem dX5_tellsArc_205 : decode cX5_tellsArc 205 = .ok (.iload 8, 2) := dk_21 8 (dk_at dksX5_tellsArc_8 16 rfl rfl)
theorem dX5_tellsArc_207 : decode cX5_tellsArc 207 = .ok (.ireturn, 1) := dk_172 (dk_at dksX5_tellsArc_8 18 rfl rfl)
abbrev cX5_like : ByteArray := prog_19_method_18_code
def yX5_like : MethodName := ⟨RX5, "like", "(IIIII)I"⟩
def dkwX5_like_3 : List UInt8 := [6, 184, 0, 130, 46, 21, 5, 160, 0, 6, 21, 6, 172, 132, 6, 1, 167, 255, 171, 2, 172]
abbrev dktX5_like_3 : List UInt8 := dkwX5_like_3 ++ []
def dkwX5_like_2 : List UInt8 := [42, 180, 0, 7, 27, 21, 6, 5, 184, 0, 130, 46, 21, 4, 160, 0, 23, 42, 180, 0, 7, 27, 21, 6]
abbrev dktX5_like_2 : List UInt8 := dkwX5_like_2 ++ dktX5_like_3
def dkwX5_like_1 : List UInt8 := [184, 0, 130, 46, 28, 160, 0, 56, 42, 180, 0, 7, 27, 21, 6, 4, 184, 0, 130, 46, 29, 160, 0, 40]
abbrev dktX5_like_1 : List UInt8 := dkwX5_like_1 ++ dktX5_like_2
def dkwX5_like_0 : List UInt8 := [3, 54, 6, 21, 6, 42, 180, 0, 7, 5, 27, 96, 46, 162, 0, 78, 42, 180, 0, 7, 27, 21, 6, 3]
abbrev dktX5_like_0 : List UInt8 := dkwX5_like_0 ++ dktX5_like_1
theorem dksX5_like_0 : cX5_like.data.toList.drop 0 = dktX5_like_0 := by decide +kernel
theorem dksX5_like_1 : cX5_like.data.toList.drop 24 = dktX5_like_1 := dk_seg dksX5_like_0 24 rfl rfl
theorem dksX5_like_2 : cX5_like.data.toList.drop 48 = dktX5_like_2 := dk_seg dksX5_like_1 24 rfl rfl
theorem dksX5_like_3 : cX5_like.data.toList.drop 72 = dktX5_like_3 := dk_seg dksX5_like_2 24 rfl rfl
theorem dX5_like_0 : decode cX5_like 0 = .ok (.iconst 0, 1) := dk_3 (dk_at dksX5_like_0 0 rfl rfl)
theorem dX5_like_1 : decode cX5_like 1 = .ok (.istore 6, 2) := dk_54 6 (dk_at dksX5_like_0 1 rfl rfl)
theorem dX5_like_3 : decode cX5_like 3 = .ok (.iload 6, 2) := dk_21 6 (dk_at dksX5_like_0 3 rfl rfl)
theorem dX5_like_5 : decode cX5_like 5 = .ok (.aload_n 0, 1) := dk_42 (dk_at dksX5_like_0 5 rfl rfl)
theorem dX5_like_6 : decode cX5_like 6 = .ok (.getfield 7, 3) := dk_180 0 7 (dk_at dksX5_like_0 6 rfl rfl)
theorem dX5_like_9 : decode cX5_like 9 = .ok (.iconst 2, 1) := dk_5 (dk_at dksX5_like_0 9 rfl rfl)
theorem dX5_like_10 : decode cX5_like 10 = .ok (.iload_n 1, 1) := dk_27 (dk_at dksX5_like_0 10 rfl rfl)
theorem dX5_like_11 : decode cX5_like 11 = .ok (.iadd, 1) := dk_96 (dk_at dksX5_like_0 11 rfl rfl)
theorem dX5_like_12 : decode cX5_like 12 = .ok (.iaload, 1) := dk_46 (dk_at dksX5_like_0 12 rfl rfl)
theorem dX5_like_13 : decode cX5_like 13 = .ok (.if_icmp .ge 78, 3) := dk_162 0 78 (dk_at dksX5_like_0 13 rfl rfl)
theorem dX5_like_16 : decode cX5_like 16 = .ok (.aload_n 0, 1) := dk_42 (dk_at dksX5_like_0 16 rfl rfl)
theorem dX5_like_17 : decode cX5_like 17 = .ok (.getfield 7, 3) := dk_180 0 7 (dk_at dksX5_like_0 17 rfl rfl)
theorem dX5_like_20 : decode cX5_like 20 = .ok (.iload_n 1, 1) := dk_27 (dk_at dksX5_like_0 20 rfl rfl)
theorem dX5_like_21 : decode cX5_like 21 = .ok (.iload 6, 2) := dk_21 6 (dk_at dksX5_like_0 21 rfl rfl)
theorem dX5_like_23 : decode cX5_like 23 = .ok (.iconst 0, 1) := dk_3 (dk_at dksX5_like_0 23 rfl rfl)
theorem dX5_like_24 : decode cX5_like 24 = .ok (.invokestatic 130, 3) := dk_184 0 130 (dk_at dksX5_like_1 0 rfl rfl)
theorem dX5_like_27 : decode cX5_like 27 = .ok (.iaload, 1) := dk_46 (dk_at dksX5_like_1 3 rfl rfl)
theorem dX5_like_28 : decode cX5_like 28 = .ok (.iload_n 2, 1) := dk_28 (dk_at dksX5_like_1 4 rfl rfl)
theorem dX5_like_29 : decode cX5_like 29 = .ok (.if_icmp .ne 56, 3) := dk_160 0 56 (dk_at dksX5_like_1 5 rfl rfl)
theorem dX5_like_32 : decode cX5_like 32 = .ok (.aload_n 0, 1) := dk_42 (dk_at dksX5_like_1 8 rfl rfl)
theorem dX5_like_33 : decode cX5_like 33 = .ok (.getfield 7, 3) := dk_180 0 7 (dk_at dksX5_like_1 9 rfl rfl)
theorem dX5_like_36 : decode cX5_like 36 = .ok (.iload_n 1, 1) := dk_27 (dk_at dksX5_like_1 12 rfl rfl)
theorem dX5_like_37 : decode cX5_like 37 = .ok (.iload 6, 2) := dk_21 6 (dk_at dksX5_like_1 13 rfl rfl)
theorem dX5_like_39 : decode cX5_like 39 = .ok (.iconst 1, 1) := dk_4 (dk_at dksX5_like_1 15 rfl rfl)
theorem dX5_like_40 : decode cX5_like 40 = .ok (.invokestatic 130, 3) := dk_184 0 130 (dk_at dksX5_like_1 16 rfl rfl)
theorem dX5_like_43 : decode cX5_like 43 = .ok (.iaload, 1) := dk_46 (dk_at dksX5_like_1 19 rfl rfl)
theorem dX5_like_44 : decode cX5_like 44 = .ok (.iload_n 3, 1) := dk_29 (dk_at dksX5_like_1 20 rfl rfl)
theorem dX5_like_45 : decode cX5_like 45 = .ok (.if_icmp .ne 40, 3) := dk_160 0 40 (dk_at dksX5_like_1 21 rfl rfl)
theorem dX5_like_48 : decode cX5_like 48 = .ok (.aload_n 0, 1) := dk_42 (dk_at dksX5_like_2 0 rfl rfl)
theorem dX5_like_49 : decode cX5_like 49 = .ok (.getfield 7, 3) := dk_180 0 7 (dk_at dksX5_like_2 1 rfl rfl)
theorem dX5_like_52 : decode cX5_like 52 = .ok (.iload_n 1, 1) := dk_27 (dk_at dksX5_like_2 4 rfl rfl)
theorem dX5_like_53 : decode cX5_like 53 = .ok (.iload 6, 2) := dk_21 6 (dk_at dksX5_like_2 5 rfl rfl)
theorem dX5_like_55 : decode cX5_like 55 = .ok (.iconst 2, 1) := dk_5 (dk_at dksX5_like_2 7 rfl rfl)
theorem dX5_like_56 : decode cX5_like 56 = .ok (.invokestatic 130, 3) := dk_184 0 130 (dk_at dksX5_like_2 8 rfl rfl)
theorem dX5_like_59 : decode cX5_like 59 = .ok (.iaload, 1) := dk_46 (dk_at dksX5_like_2 11 rfl rfl)
theorem dX5_like_60 : decode cX5_like 60 = .ok (.iload 4, 2) := dk_21 4 (dk_at dksX5_like_2 12 rfl rfl)
theorem dX5_like_62 : decode cX5_like 62 = .ok (.if_icmp .ne 23, 3) := dk_160 0 23 (dk_at dksX5_like_2 14 rfl rfl)
theorem dX5_like_65 : decode cX5_like 65 = .ok (.aload_n 0, 1) := dk_42 (dk_at dksX5_like_2 17 rfl rfl)
theorem dX5_like_66 : decode cX5_like 66 = .ok (.getfield 7, 3) := dk_180 0 7 (dk_at dksX5_like_2 18 rfl rfl)
theorem dX5_like_69 : decode cX5_like 69 = .ok (.iload_n 1, 1) := dk_27 (dk_at dksX5_like_2 21 rfl rfl)
theorem dX5_like_70 : decode cX5_like 70 = .ok (.iload 6, 2) := dk_21 6 (dk_at dksX5_like_2 22 rfl rfl)
theorem dX5_like_72 : decode cX5_like 72 = .ok (.iconst 3, 1) := dk_6 (dk_at dksX5_like_3 0 rfl rfl)
theorem dX5_like_73 : decode cX5_like 73 = .ok (.invokestatic 130, 3) := dk_184 0 130 (dk_at dksX5_like_3 1 rfl rfl)
theorem dX5_like_76 : decode cX5_like 76 = .ok (.iaload, 1) := dk_46 (dk_at dksX5_like_3 4 rfl rfl)
theorem dX5_like_77 : decode cX5_like 77 = .ok (.iload 5, 2) := dk_21 5 (dk_at dksX5_like_3 5 rfl rfl)
theorem dX5_like_79 : decode cX5_like 79 = .ok (.if_icmp .ne 6, 3) := dk_160 0 6 (dk_at dksX5_like_3 7 rfl rfl)
theorem dX5_like_82 : decode cX5_like 82 = .ok (.iload 6, 2) := dk_21 6 (dk_at dksX5_like_3 10 rfl rfl)
theorem dX5_like_84 : decode cX5_like 84 = .ok (.ireturn, 1) := dk_172 (dk_at dksX5_like_3 12 rfl rfl)
theorem dX5_like_85 : decode cX5_like 85 = .ok (.iinc 6 1, 3) := dk_132 6 1 (dk_at dksX5_like_3 13 rfl rfl)
theorem dX5_like_88 : decode cX5_like 88 = .ok (.goto (-85), 3) := dk_167 255 171 (dk_at dksX5_like_3 16 rfl rfl)
theorem dX5_like_91 : decode cX5_like 91 = .ok (.iconst (-1), 1) := dk_2 (dk_at dksX5_like_3 19 rfl rfl)
theorem dX5_like_92 : decode cX5_like 92 = .ok (.ireturn, 1) := dk_172 (dk_at dksX5_like_3 20 rfl rfl)
abbrev cX5_of : ByteArray := prog_19_method_12_code
def yX5_of : MethodName := ⟨RX5, "of", "(III)I"⟩
def dkwX5_of_0 : List UInt8 := [16, 17, 16, 60, 26, 104, 96, 8, 27, 104, 96, 28, 96, 172]
abbrev dktX5_of_0 : List UInt8 := dkwX5_of_0 ++ []
theorem dksX5_of_0 : cX5_of.data.toList.drop 0 = dktX5_of_0 := by decide +kernel
theorem dX5_of_0 : decode cX5_of 0 = .ok (.bipush 17, 2) := dk_16 17 (dk_at dksX5_of_0 0 rfl rfl)
theorem dX5_of_2 : decode cX5_of 2 = .ok (.bipush 60, 2) := dk_16 60 (dk_at dksX5_of_0 2 rfl rfl)
theorem dX5_of_4 : decode cX5_of 4 = .ok (.iload_n 0, 1) := dk_26 (dk_at dksX5_of_0 4 rfl rfl)
theorem dX5_of_5 : decode cX5_of 5 = .ok (.imul, 1) := dk_104 (dk_at dksX5_of_0 5 rfl rfl)
theorem dX5_of_6 : decode cX5_of 6 = .ok (.iadd, 1) := dk_96 (dk_at dksX5_of_0 6 rfl rfl)
theorem dX5_of_7 : decode cX5_of 7 = .ok (.iconst 5, 1) := dk_8 (dk_at dksX5_of_0 7 rfl rfl)
theorem dX5_of_8 : decode cX5_of 8 = .ok (.iload_n 1, 1) := dk_27 (dk_at dksX5_of_0 8 rfl rfl)
theorem dX5_of_9 : decode cX5_of 9 = .ok (.imul, 1) := dk_104 (dk_at dksX5_of_0 9 rfl rfl)
theorem dX5_of_10 : decode cX5_of 10 = .ok (.iadd, 1) := dk_96 (dk_at dksX5_of_0 10 rfl rfl)
theorem dX5_of_11 : decode cX5_of 11 = .ok (.iload_n 2, 1) := dk_28 (dk_at dksX5_of_0 11 rfl rfl)
theorem dX5_of_12 : decode cX5_of 12 = .ok (.iadd, 1) := dk_96 (dk_at dksX5_of_0 12 rfl rfl)
theorem dX5_of_13 : decode cX5_of 13 = .ok (.ireturn, 1) := dk_172 (dk_at dksX5_of_0 13 rfl rfl)
abbrev cX5_weigh : ByteArray := prog_19_method_22_code
def yX5_weigh : MethodName := ⟨RX5, "weigh", "(III)I"⟩
def dkwX5_weigh_0 : List UInt8 := [42, 182, 0, 110, 42, 42, 27, 28, 29, 182, 0, 144, 182, 0, 116, 172]
abbrev dktX5_weigh_0 : List UInt8 := dkwX5_weigh_0 ++ []
theorem dksX5_weigh_0 : cX5_weigh.data.toList.drop 0 = dktX5_weigh_0 := by decide +kernel
theorem dX5_weigh_0 : decode cX5_weigh 0 = .ok (.aload_n 0, 1) := dk_42 (dk_at dksX5_weigh_0 0 rfl rfl)
theorem dX5_weigh_1 : decode cX5_weigh 1 = .ok (.invokevirtual 110, 3) := dk_182 0 110 (dk_at dksX5_weigh_0 1 rfl rfl)
theorem dX5_weigh_4 : decode cX5_weigh 4 = .ok (.aload_n 0, 1) := dk_42 (dk_at dksX5_weigh_0 4 rfl rfl)
theorem dX5_weigh_5 : decode cX5_weigh 5 = .ok (.aload_n 0, 1) := dk_42 (dk_at dksX5_weigh_0 5 rfl rfl)
theorem dX5_weigh_6 : decode cX5_weigh 6 = .ok (.iload_n 1, 1) := dk_27 (dk_at dksX5_weigh_0 6 rfl rfl)
theorem dX5_weigh_7 : decode cX5_weigh 7 = .ok (.iload_n 2, 1) := dk_28 (dk_at dksX5_weigh_0 7 rfl rfl)
theorem dX5_weigh_8 : decode cX5_weigh 8 = .ok (.iload_n 3, 1) := dk_29 (dk_at dksX5_weigh_0 8 rfl rfl)
theorem dX5_weigh_9 : decode cX5_weigh 9 = .ok (.invokevirtual 144, 3) := dk_182 0 144 (dk_at dksX5_weigh_0 9 rfl rfl)
theorem dX5_weigh_12 : decode cX5_weigh 12 = .ok (.invokevirtual 116, 3) := dk_182 0 116 (dk_at dksX5_weigh_0 12 rfl rfl)
theorem dX5_weigh_15 : decode cX5_weigh 15 = .ok (.ireturn, 1) := dk_172 (dk_at dksX5_weigh_0 15 rfl rfl)
abbrev cX5_weighs : ByteArray := prog_19_method_21_code
def yX5_weighs : MethodName := ⟨RX5, "weighs", "(III)I"⟩
def dkwX5_weighs_3 : List UInt8 := [79, 21, 4, 172]
abbrev dktX5_weighs_3 : List UInt8 := dkwX5_weighs_3 ++ []
def dkwX5_weighs_2 : List UInt8 := [21, 4, 29, 160, 0, 10, 42, 6, 28, 182, 0, 103, 172, 42, 180, 0, 7, 27, 28, 7, 184, 0, 130, 29]
abbrev dktX5_weighs_2 : List UInt8 := dkwX5_weighs_2 ++ dktX5_weighs_3
def dkwX5_weighs_1 : List UInt8 := [154, 0, 10, 42, 16, 244, 182, 0, 84, 172, 42, 180, 0, 7, 27, 28, 7, 184, 0, 130, 46, 54, 4]
abbrev dktX5_weighs_1 : List UInt8 := dkwX5_weighs_1 ++ dktX5_weighs_2
def dkwX5_weighs_0 : List UInt8 := [42, 27, 28, 182, 0, 141, 154, 0, 10, 42, 16, 245, 182, 0, 84, 172, 29, 3, 16, 9, 184, 0, 95]
abbrev dktX5_weighs_0 : List UInt8 := dkwX5_weighs_0 ++ dktX5_weighs_1
theorem dksX5_weighs_0 : cX5_weighs.data.toList.drop 0 = dktX5_weighs_0 := by decide +kernel
theorem dksX5_weighs_1 : cX5_weighs.data.toList.drop 23 = dktX5_weighs_1 := dk_seg dksX5_weighs_0 23 rfl rfl
theorem dksX5_weighs_2 : cX5_weighs.data.toList.drop 46 = dktX5_weighs_2 := dk_seg dksX5_weighs_1 23 rfl rfl
theorem dksX5_weighs_3 : cX5_weighs.data.toList.drop 70 = dktX5_weighs_3 := dk_seg dksX5_weighs_2 24 rfl rfl
theorem dX5_weighs_0 : decode cX5_weighs 0 = .ok (.aload_n 0, 1) := dk_42 (dk_at dksX5_weighs_0 0 rfl rfl)
theorem dX5_weighs_1 : decode cX5_weighs 1 = .ok (.iload_n 1, 1) := dk_27 (dk_at dksX5_weighs_0 1 rfl rfl)
theorem dX5_weighs_2 : decode cX5_weighs 2 = .ok (.iload_n 2, 1) := dk_28 (dk_at dksX5_weighs_0 2 rfl rfl)
theorem dX5_weighs_3 : decode cX5_weighs 3 = .ok (.invokevirtual 141, 3) := dk_182 0 141 (dk_at dksX5_weighs_0 3 rfl rfl)
theorem dX5_weighs_6 : decode cX5_weighs 6 = .ok (.ifCond .ne 10, 3) := dk_154 0 10 (dk_at dksX5_weighs_0 6 rfl rfl)
theorem dX5_weighs_9 : decode cX5_weighs 9 = .ok (.aload_n 0, 1) := dk_42 (dk_at dksX5_weighs_0 9 rfl rfl)
theorem dX5_weighs_10 : decode cX5_weighs 10 = .ok (.bipush (-11), 2) := dk_16 245 (dk_at dksX5_weighs_0 10 rfl rfl)
theorem dX5_weighs_12 : decode cX5_weighs 12 = .ok (.invokevirtual 84, 3) := dk_182 0 84 (dk_at dksX5_weighs_0 12 rfl rfl)
theorem dX5_weighs_15 : decode cX5_weighs 15 = .ok (.ireturn, 1) := dk_172 (dk_at dksX5_weighs_0 15 rfl rfl)
theorem dX5_weighs_16 : decode cX5_weighs 16 = .ok (.iload_n 3, 1) := dk_29 (dk_at dksX5_weighs_0 16 rfl rfl)
theorem dX5_weighs_17 : decode cX5_weighs 17 = .ok (.iconst 0, 1) := dk_3 (dk_at dksX5_weighs_0 17 rfl rfl)
theorem dX5_weighs_18 : decode cX5_weighs 18 = .ok (.bipush 9, 2) := dk_16 9 (dk_at dksX5_weighs_0 18 rfl rfl)
theorem dX5_weighs_20 : decode cX5_weighs 20 = .ok (.invokestatic 95, 3) := dk_184 0 95 (dk_at dksX5_weighs_0 20 rfl rfl)
theorem dX5_weighs_23 : decode cX5_weighs 23 = .ok (.ifCond .ne 10, 3) := dk_154 0 10 (dk_at dksX5_weighs_1 0 rfl rfl)
theorem dX5_weighs_26 : decode cX5_weighs 26 = .ok (.aload_n 0, 1) := dk_42 (dk_at dksX5_weighs_1 3 rfl rfl)
theorem dX5_weighs_27 : decode cX5_weighs 27 = .ok (.bipush (-12), 2) := dk_16 244 (dk_at dksX5_weighs_1 4 rfl rfl)
theorem dX5_weighs_29 : decode cX5_weighs 29 = .ok (.invokevirtual 84, 3) := dk_182 0 84 (dk_at dksX5_weighs_1 6 rfl rfl)
theorem dX5_weighs_32 : decode cX5_weighs 32 = .ok (.ireturn, 1) := dk_172 (dk_at dksX5_weighs_1 9 rfl rfl)
theorem dX5_weighs_33 : decode cX5_weighs 33 = .ok (.aload_n 0, 1) := dk_42 (dk_at dksX5_weighs_1 10 rfl rfl)
theorem dX5_weighs_34 : decode cX5_weighs 34 = .ok (.getfield 7, 3) := dk_180 0 7 (dk_at dksX5_weighs_1 11 rfl rfl)
theorem dX5_weighs_37 : decode cX5_weighs 37 = .ok (.iload_n 1, 1) := dk_27 (dk_at dksX5_weighs_1 14 rfl rfl)
theorem dX5_weighs_38 : decode cX5_weighs 38 = .ok (.iload_n 2, 1) := dk_28 (dk_at dksX5_weighs_1 15 rfl rfl)
theorem dX5_weighs_39 : decode cX5_weighs 39 = .ok (.iconst 4, 1) := dk_7 (dk_at dksX5_weighs_1 16 rfl rfl)
theorem dX5_weighs_40 : decode cX5_weighs 40 = .ok (.invokestatic 130, 3) := dk_184 0 130 (dk_at dksX5_weighs_1 17 rfl rfl)
theorem dX5_weighs_43 : decode cX5_weighs 43 = .ok (.iaload, 1) := dk_46 (dk_at dksX5_weighs_1 20 rfl rfl)
theorem dX5_weighs_44 : decode cX5_weighs 44 = .ok (.istore 4, 2) := dk_54 4 (dk_at dksX5_weighs_1 21 rfl rfl)
theorem dX5_weighs_46 : decode cX5_weighs 46 = .ok (.iload 4, 2) := dk_21 4 (dk_at dksX5_weighs_2 0 rfl rfl)
theorem dX5_weighs_48 : decode cX5_weighs 48 = .ok (.iload_n 3, 1) := dk_29 (dk_at dksX5_weighs_2 2 rfl rfl)
theorem dX5_weighs_49 : decode cX5_weighs 49 = .ok (.if_icmp .ne 10, 3) := dk_160 0 10 (dk_at dksX5_weighs_2 3 rfl rfl)
theorem dX5_weighs_52 : decode cX5_weighs 52 = .ok (.aload_n 0, 1) := dk_42 (dk_at dksX5_weighs_2 6 rfl rfl)
theorem dX5_weighs_53 : decode cX5_weighs 53 = .ok (.iconst 3, 1) := dk_6 (dk_at dksX5_weighs_2 7 rfl rfl)
theorem dX5_weighs_54 : decode cX5_weighs 54 = .ok (.iload_n 2, 1) := dk_28 (dk_at dksX5_weighs_2 8 rfl rfl)
theorem dX5_weighs_55 : decode cX5_weighs 55 = .ok (.invokevirtual 103, 3) := dk_182 0 103 (dk_at dksX5_weighs_2 9 rfl rfl)
theorem dX5_weighs_58 : decode cX5_weighs 58 = .ok (.ireturn, 1) := dk_172 (dk_at dksX5_weighs_2 12 rfl rfl)
theorem dX5_weighs_59 : decode cX5_weighs 59 = .ok (.aload_n 0, 1) := dk_42 (dk_at dksX5_weighs_2 13 rfl rfl)
theorem dX5_weighs_60 : decode cX5_weighs 60 = .ok (.getfield 7, 3) := dk_180 0 7 (dk_at dksX5_weighs_2 14 rfl rfl)
theorem dX5_weighs_63 : decode cX5_weighs 63 = .ok (.iload_n 1, 1) := dk_27 (dk_at dksX5_weighs_2 17 rfl rfl)
theorem dX5_weighs_64 : decode cX5_weighs 64 = .ok (.iload_n 2, 1) := dk_28 (dk_at dksX5_weighs_2 18 rfl rfl)
theorem dX5_weighs_65 : decode cX5_weighs 65 = .ok (.iconst 4, 1) := dk_7 (dk_at dksX5_weighs_2 19 rfl rfl)
theorem dX5_weighs_66 : decode cX5_weighs 66 = .ok (.invokestatic 130, 3) := dk_184 0 130 (dk_at dksX5_weighs_2 20 rfl rfl)
theorem dX5_weighs_69 : decode cX5_weighs 69 = .ok (.iload_n 3, 1) := dk_29 (dk_at dksX5_weighs_2 23 rfl rfl)
theorem dX5_weighs_70 : decode cX5_weighs 70 = .ok (.iastore, 1) := dk_79 (dk_at dksX5_weighs_3 0 rfl rfl)
theorem dX5_weighs_71 : decode cX5_weighs 71 = .ok (.iload 4, 2) := dk_21 4 (dk_at dksX5_weighs_3 1 rfl rfl)
theorem dX5_weighs_73 : decode cX5_weighs 73 = .ok (.ireturn, 1) := dk_172 (dk_at dksX5_weighs_3 3 rfl rfl)
abbrev cX5_isArc : ByteArray := prog_19_method_10_code
def yX5_isArc : MethodName := ⟨RX5, "isArc", "(II)Z"⟩
def dkwX5_isArc_1 : List UInt8 := [153, 0, 7, 4, 167, 0, 4, 3, 172]
abbrev dktX5_isArc_1 : List UInt8 := dkwX5_isArc_1 ++ []
def dkwX5_isArc_0 : List UInt8 := [27, 184, 0, 99, 153, 0, 25, 28, 3, 42, 180, 0, 7, 5, 27, 96, 46, 4, 100, 184, 0, 95]
abbrev dktX5_isArc_0 : List UInt8 := dkwX5_isArc_0 ++ dktX5_isArc_1
theorem dksX5_isArc_0 : cX5_isArc.data.toList.drop 0 = dktX5_isArc_0 := by decide +kernel
theorem dksX5_isArc_1 : cX5_isArc.data.toList.drop 22 = dktX5_isArc_1 := dk_seg dksX5_isArc_0 22 rfl rfl
theorem dX5_isArc_0 : decode cX5_isArc 0 = .ok (.iload_n 1, 1) := dk_27 (dk_at dksX5_isArc_0 0 rfl rfl)
theorem dX5_isArc_1 : decode cX5_isArc 1 = .ok (.invokestatic 99, 3) := dk_184 0 99 (dk_at dksX5_isArc_0 1 rfl rfl)
theorem dX5_isArc_4 : decode cX5_isArc 4 = .ok (.ifCond .eq 25, 3) := dk_153 0 25 (dk_at dksX5_isArc_0 4 rfl rfl)
theorem dX5_isArc_7 : decode cX5_isArc 7 = .ok (.iload_n 2, 1) := dk_28 (dk_at dksX5_isArc_0 7 rfl rfl)
theorem dX5_isArc_8 : decode cX5_isArc 8 = .ok (.iconst 0, 1) := dk_3 (dk_at dksX5_isArc_0 8 rfl rfl)
theorem dX5_isArc_9 : decode cX5_isArc 9 = .ok (.aload_n 0, 1) := dk_42 (dk_at dksX5_isArc_0 9 rfl rfl)
theorem dX5_isArc_10 : decode cX5_isArc 10 = .ok (.getfield 7, 3) := dk_180 0 7 (dk_at dksX5_isArc_0 10 rfl rfl)
theorem dX5_isArc_13 : decode cX5_isArc 13 = .ok (.iconst 2, 1) := dk_5 (dk_at dksX5_isArc_0 13 rfl rfl)
theorem dX5_isArc_14 : decode cX5_isArc 14 = .ok (.iload_n 1, 1) := dk_27 (dk_at dksX5_isArc_0 14 rfl rfl)
theorem dX5_isArc_15 : decode cX5_isArc 15 = .ok (.iadd, 1) := dk_96 (dk_at dksX5_isArc_0 15 rfl rfl)
theorem dX5_isArc_16 : decode cX5_isArc 16 = .ok (.iaload, 1) := dk_46 (dk_at dksX5_isArc_0 16 rfl rfl)
theorem dX5_isArc_17 : decode cX5_isArc 17 = .ok (.iconst 1, 1) := dk_4 (dk_at dksX5_isArc_0 17 rfl rfl)
theorem dX5_isArc_18 : decode cX5_isArc 18 = .ok (.isub, 1) := dk_100 (dk_at dksX5_isArc_0 18 rfl rfl)
theorem dX5_isArc_19 : decode cX5_isArc 19 = .ok (.invokestatic 95, 3) := dk_184 0 95 (dk_at dksX5_isArc_0 19 rfl rfl)
theorem dX5_isArc_22 : decode cX5_isArc 22 = .ok (.ifCond .eq 7, 3) := dk_153 0 7 (dk_at dksX5_isArc_1 0 rfl rfl)
theorem dX5_isArc_25 : decode cX5_isArc 25 = .ok (.iconst 1, 1) := dk_4 (dk_at dksX5_isArc_1 3 rfl rfl)
theorem dX5_isArc_26 : decode cX5_isArc 26 = .ok (.goto 4, 3) := dk_167 0 4 (dk_at dksX5_isArc_1 4 rfl rfl)
theorem dX5_isArc_29 : decode cX5_isArc 29 = .ok (.iconst 0, 1) := dk_3 (dk_at dksX5_isArc_1 7 rfl rfl)
theorem dX5_isArc_30 : decode cX5_isArc 30 = .ok (.ireturn, 1) := dk_172 (dk_at dksX5_isArc_1 8 rfl rfl)
abbrev cX5_drop : ByteArray := prog_19_method_24_code
def yX5_drop : MethodName := ⟨RX5, "drop", "(II)I"⟩
def dkwX5_drop_0 : List UInt8 := [42, 182, 0, 110, 42, 42, 27, 28, 182, 0, 147, 182, 0, 116, 172]
abbrev dktX5_drop_0 : List UInt8 := dkwX5_drop_0 ++ []
theorem dksX5_drop_0 : cX5_drop.data.toList.drop 0 = dktX5_drop_0 := by decide +kernel
theorem dX5_drop_0 : decode cX5_drop 0 = .ok (.aload_n 0, 1) := dk_42 (dk_at dksX5_drop_0 0 rfl rfl)
theorem dX5_drop_1 : decode cX5_drop 1 = .ok (.invokevirtual 110, 3) := dk_182 0 110 (dk_at dksX5_drop_0 1 rfl rfl)
theorem dX5_drop_4 : decode cX5_drop 4 = .ok (.aload_n 0, 1) := dk_42 (dk_at dksX5_drop_0 4 rfl rfl)
theorem dX5_drop_5 : decode cX5_drop 5 = .ok (.aload_n 0, 1) := dk_42 (dk_at dksX5_drop_0 5 rfl rfl)
theorem dX5_drop_6 : decode cX5_drop 6 = .ok (.iload_n 1, 1) := dk_27 (dk_at dksX5_drop_0 6 rfl rfl)
theorem dX5_drop_7 : decode cX5_drop 7 = .ok (.iload_n 2, 1) := dk_28 (dk_at dksX5_drop_0 7 rfl rfl)
theorem dX5_drop_8 : decode cX5_drop 8 = .ok (.invokevirtual 147, 3) := dk_182 0 147 (dk_at dksX5_drop_0 8 rfl rfl)
theorem dX5_drop_11 : decode cX5_drop 11 = .ok (.invokevirtual 116, 3) := dk_182 0 116 (dk_at dksX5_drop_0 11 rfl rfl)
theorem dX5_drop_14 : decode cX5_drop 14 = .ok (.ireturn, 1) := dk_172 (dk_at dksX5_drop_0 14 rfl rfl)
abbrev cX5_drops : ByteArray := prog_19_method_23_code
def yX5_drops : MethodName := ⟨RX5, "drops", "(II)I"⟩
def dkwX5_drops_3 : List UInt8 := [92, 46, 4, 96, 79, 42, 180, 0, 7, 5, 27, 96, 46, 172]
abbrev dktX5_drops_3 : List UInt8 := dkwX5_drops_3 ++ []
def dkwX5_drops_2 : List UInt8 := [132, 3, 1, 167, 255, 228, 42, 180, 0, 7, 5, 27, 96, 92, 46, 4, 100, 79, 42, 180, 0, 7, 16, 15]
abbrev dktX5_drops_2 : List UInt8 := dkwX5_drops_2 ++ dktX5_drops_3
def dkwX5_drops_1 : List UInt8 := [27, 16, 11, 3, 184, 0, 130, 162, 0, 23, 42, 180, 0, 7, 29, 42, 180, 0, 7, 29, 8, 96, 46, 79]
abbrev dktX5_drops_1 : List UInt8 := dkwX5_drops_1 ++ dktX5_drops_2
def dkwX5_drops_0 : List UInt8 := [42, 27, 28, 182, 0, 141, 154, 0, 10, 42, 16, 245, 182, 0, 84, 172, 27, 28, 3, 184, 0, 130, 62, 29]
abbrev dktX5_drops_0 : List UInt8 := dkwX5_drops_0 ++ dktX5_drops_1
theorem dksX5_drops_0 : cX5_drops.data.toList.drop 0 = dktX5_drops_0 := by decide +kernel
theorem dksX5_drops_1 : cX5_drops.data.toList.drop 24 = dktX5_drops_1 := dk_seg dksX5_drops_0 24 rfl rfl
theorem dksX5_drops_2 : cX5_drops.data.toList.drop 48 = dktX5_drops_2 := dk_seg dksX5_drops_1 24 rfl rfl
theorem dksX5_drops_3 : cX5_drops.data.toList.drop 72 = dktX5_drops_3 := dk_seg dksX5_drops_2 24 rfl rfl
theorem dX5_drops_0 : decode cX5_drops 0 = .ok (.aload_n 0, 1) := dk_42 (dk_at dksX5_drops_0 0 rfl rfl)
theorem dX5_drops_1 : decode cX5_drops 1 = .ok (.iload_n 1, 1) := dk_27 (dk_at dksX5_drops_0 1 rfl rfl)
theorem dX5_drops_2 : decode cX5_drops 2 = .ok (.iload_n 2, 1) := dk_28 (dk_at dksX5_drops_0 2 rfl rfl)
theorem dX5_drops_3 : decode cX5_drops 3 = .ok (.invokevirtual 141, 3) := dk_182 0 141 (dk_at dksX5_drops_0 3 rfl rfl)
theorem dX5_drops_6 : decode cX5_drops 6 = .ok (.ifCond .ne 10, 3) := dk_154 0 10 (dk_at dksX5_drops_0 6 rfl rfl)
theorem dX5_drops_9 : decode cX5_drops 9 = .ok (.aload_n 0, 1) := dk_42 (dk_at dksX5_drops_0 9 rfl rfl)
theorem dX5_drops_10 : decode cX5_drops 10 = .ok (.bipush (-11), 2) := dk_16 245 (dk_at dksX5_drops_0 10 rfl rfl)
theorem dX5_drops_12 : decode cX5_drops 12 = .ok (.invokevirtual 84, 3) := dk_182 0 84 (dk_at dksX5_drops_0 12 rfl rfl)
theorem dX5_drops_15 : decode cX5_drops 15 = .ok (.ireturn, 1) := dk_172 (dk_at dksX5_drops_0 15 rfl rfl)
theorem dX5_drops_16 : decode cX5_drops 16 = .ok (.iload_n 1, 1) := dk_27 (dk_at dksX5_drops_0 16 rfl rfl)
theorem dX5_drops_17 : decode cX5_drops 17 = .ok (.iload_n 2, 1) := dk_28 (dk_at dksX5_drops_0 17 rfl rfl)
theorem dX5_drops_18 : decode cX5_drops 18 = .ok (.iconst 0, 1) := dk_3 (dk_at dksX5_drops_0 18 rfl rfl)
theorem dX5_drops_19 : decode cX5_drops 19 = .ok (.invokestatic 130, 3) := dk_184 0 130 (dk_at dksX5_drops_0 19 rfl rfl)
theorem dX5_drops_22 : decode cX5_drops 22 = .ok (.istore_n 3, 1) := dk_62 (dk_at dksX5_drops_0 22 rfl rfl)
theorem dX5_drops_23 : decode cX5_drops 23 = .ok (.iload_n 3, 1) := dk_29 (dk_at dksX5_drops_0 23 rfl rfl)
theorem dX5_drops_24 : decode cX5_drops 24 = .ok (.iload_n 1, 1) := dk_27 (dk_at dksX5_drops_1 0 rfl rfl)
theorem dX5_drops_25 : decode cX5_drops 25 = .ok (.bipush 11, 2) := dk_16 11 (dk_at dksX5_drops_1 1 rfl rfl)
theorem dX5_drops_27 : decode cX5_drops 27 = .ok (.iconst 0, 1) := dk_3 (dk_at dksX5_drops_1 3 rfl rfl)
theorem dX5_drops_28 : decode cX5_drops 28 = .ok (.invokestatic 130, 3) := dk_184 0 130 (dk_at dksX5_drops_1 4 rfl rfl)
theorem dX5_drops_31 : decode cX5_drops 31 = .ok (.if_icmp .ge 23, 3) := dk_162 0 23 (dk_at dksX5_drops_1 7 rfl rfl)
theorem dX5_drops_34 : decode cX5_drops 34 = .ok (.aload_n 0, 1) := dk_42 (dk_at dksX5_drops_1 10 rfl rfl)
theorem dX5_drops_35 : decode cX5_drops 35 = .ok (.getfield 7, 3) := dk_180 0 7 (dk_at dksX5_drops_1 11 rfl rfl)
theorem dX5_drops_38 : decode cX5_drops 38 = .ok (.iload_n 3, 1) := dk_29 (dk_at dksX5_drops_1 14 rfl rfl)
theorem dX5_drops_39 : decode cX5_drops 39 = .ok (.aload_n 0, 1) := dk_42 (dk_at dksX5_drops_1 15 rfl rfl)
theorem dX5_drops_40 : decode cX5_drops 40 = .ok (.getfield 7, 3) := dk_180 0 7 (dk_at dksX5_drops_1 16 rfl rfl)
theorem dX5_drops_43 : decode cX5_drops 43 = .ok (.iload_n 3, 1) := dk_29 (dk_at dksX5_drops_1 19 rfl rfl)
theorem dX5_drops_44 : decode cX5_drops 44 = .ok (.iconst 5, 1) := dk_8 (dk_at dksX5_drops_1 20 rfl rfl)
theorem dX5_drops_45 : decode cX5_drops 45 = .ok (.iadd, 1) := dk_96 (dk_at dksX5_drops_1 21 rfl rfl)
theorem dX5_drops_46 : decode cX5_drops 46 = .ok (.iaload, 1) := dk_46 (dk_at dksX5_drops_1 22 rfl rfl)
theorem dX5_drops_47 : decode cX5_drops 47 = .ok (.iastore, 1) := dk_79 (dk_at dksX5_drops_1 23 rfl rfl)
theorem dX5_drops_48 : decode cX5_drops 48 = .ok (.iinc 3 1, 3) := dk_132 3 1 (dk_at dksX5_drops_2 0 rfl rfl)
theorem dX5_drops_51 : decode cX5_drops 51 = .ok (.goto (-28), 3) := dk_167 255 228 (dk_at dksX5_drops_2 3 rfl rfl)
theorem dX5_drops_54 : decode cX5_drops 54 = .ok (.aload_n 0, 1) := dk_42 (dk_at dksX5_drops_2 6 rfl rfl)
theorem dX5_drops_55 : decode cX5_drops 55 = .ok (.getfield 7, 3) := dk_180 0 7 (dk_at dksX5_drops_2 7 rfl rfl)
theorem dX5_drops_58 : decode cX5_drops 58 = .ok (.iconst 2, 1) := dk_5 (dk_at dksX5_drops_2 10 rfl rfl)
theorem dX5_drops_59 : decode cX5_drops 59 = .ok (.iload_n 1, 1) := dk_27 (dk_at dksX5_drops_2 11 rfl rfl)
theorem dX5_drops_60 : decode cX5_drops 60 = .ok (.iadd, 1) := dk_96 (dk_at dksX5_drops_2 12 rfl rfl)
theorem dX5_drops_61 : decode cX5_drops 61 = .ok (.dup2, 1) := dk_92 (dk_at dksX5_drops_2 13 rfl rfl)
theorem dX5_drops_62 : decode cX5_drops 62 = .ok (.iaload, 1) := dk_46 (dk_at dksX5_drops_2 14 rfl rfl)
theorem dX5_drops_63 : decode cX5_drops 63 = .ok (.iconst 1, 1) := dk_4 (dk_at dksX5_drops_2 15 rfl rfl)
theorem dX5_drops_64 : decode cX5_drops 64 = .ok (.isub, 1) := dk_100 (dk_at dksX5_drops_2 16 rfl rfl)
theorem dX5_drops_65 : decode cX5_drops 65 = .ok (.iastore, 1) := dk_79 (dk_at dksX5_drops_2 17 rfl rfl)
theorem dX5_drops_66 : decode cX5_drops 66 = .ok (.aload_n 0, 1) := dk_42 (dk_at dksX5_drops_2 18 rfl rfl)
theorem dX5_drops_67 : decode cX5_drops 67 = .ok (.getfield 7, 3) := dk_180 0 7 (dk_at dksX5_drops_2 19 rfl rfl)
theorem dX5_drops_70 : decode cX5_drops 70 = .ok (.bipush 15, 2) := dk_16 15 (dk_at dksX5_drops_2 22 rfl rfl)
theorem dX5_drops_72 : decode cX5_drops 72 = .ok (.dup2, 1) := dk_92 (dk_at dksX5_drops_3 0 rfl rfl)
theorem dX5_drops_73 : decode cX5_drops 73 = .ok (.iaload, 1) := dk_46 (dk_at dksX5_drops_3 1 rfl rfl)
theorem dX5_drops_74 : decode cX5_drops 74 = .ok (.iconst 1, 1) := dk_4 (dk_at dksX5_drops_3 2 rfl rfl)
theorem dX5_drops_75 : decode cX5_drops 75 = .ok (.iadd, 1) := dk_96 (dk_at dksX5_drops_3 3 rfl rfl)
theorem dX5_drops_76 : decode cX5_drops 76 = .ok (.iastore, 1) := dk_79 (dk_at dksX5_drops_3 4 rfl rfl)
theorem dX5_drops_77 : decode cX5_drops 77 = .ok (.aload_n 0, 1) := dk_42 (dk_at dksX5_drops_3 5 rfl rfl)
theorem dX5_drops_78 : decode cX5_drops 78 = .ok (.getfield 7, 3) := dk_180 0 7 (dk_at dksX5_drops_3 6 rfl rfl)
theorem dX5_drops_81 : decode cX5_drops 81 = .ok (.iconst 2, 1) := dk_5 (dk_at dksX5_drops_3 9 rfl rfl)
theorem dX5_drops_82 : decode cX5_drops 82 = .ok (.iload_n 1, 1) := dk_27 (dk_at dksX5_drops_3 10 rfl rfl)
theorem dX5_drops_83 : decode cX5_drops 83 = .ok (.iadd, 1) := dk_96 (dk_at dksX5_drops_3 11 rfl rfl)
theorem dX5_drops_84 : decode cX5_drops 84 = .ok (.iaload, 1) := dk_46 (dk_at dksX5_drops_3 12 rfl rfl)
theorem dX5_drops_85 : decode cX5_drops 85 = .ok (.ireturn, 1) := dk_172 (dk_at dksX5_drops_3 13 rfl rfl)
abbrev cX5_turn : ByteArray := prog_19_method_26_code
def yX5_turn : MethodName := ⟨RX5, "turn", "(I)I"⟩
def dkwX5_turn_0 : List UInt8 := [42, 182, 0, 110, 42, 42, 27, 182, 0, 150, 182, 0, 116, 172]
abbrev dktX5_turn_0 : List UInt8 := dkwX5_turn_0 ++ []
theorem dksX5_turn_0 : cX5_turn.data.toList.drop 0 = dktX5_turn_0 := by decide +kernel
theorem dX5_turn_0 : decode cX5_turn 0 = .ok (.aload_n 0, 1) := dk_42 (dk_at dksX5_turn_0 0 rfl rfl)
theorem dX5_turn_1 : decode cX5_turn 1 = .ok (.invokevirtual 110, 3) := dk_182 0 110 (dk_at dksX5_turn_0 1 rfl rfl)
theorem dX5_turn_4 : decode cX5_turn 4 = .ok (.aload_n 0, 1) := dk_42 (dk_at dksX5_turn_0 4 rfl rfl)
theorem dX5_turn_5 : decode cX5_turn 5 = .ok (.aload_n 0, 1) := dk_42 (dk_at dksX5_turn_0 5 rfl rfl)
theorem dX5_turn_6 : decode cX5_turn 6 = .ok (.iload_n 1, 1) := dk_27 (dk_at dksX5_turn_0 6 rfl rfl)
theorem dX5_turn_7 : decode cX5_turn 7 = .ok (.invokevirtual 150, 3) := dk_182 0 150 (dk_at dksX5_turn_0 7 rfl rfl)
theorem dX5_turn_10 : decode cX5_turn 10 = .ok (.invokevirtual 116, 3) := dk_182 0 116 (dk_at dksX5_turn_0 10 rfl rfl)
theorem dX5_turn_13 : decode cX5_turn 13 = .ok (.ireturn, 1) := dk_172 (dk_at dksX5_turn_0 13 rfl rfl)
abbrev cX5_turns : ByteArray := prog_19_method_25_code
def yX5_turns : MethodName := ⟨RX5, "turns", "(I)I"⟩
def dkwX5_turns_5 : List UInt8 := [27, 96, 46, 182, 0, 103, 172, 42, 180, 0, 7, 16, 16, 92, 46, 4, 96, 79, 28, 172]
abbrev dktX5_turns_5 : List UInt8 := dkwX5_turns_5 ++ []
def dkwX5_turns_4 : List UInt8 := [6, 184, 0, 130, 21, 4, 79, 132, 3, 1, 167, 255, 169, 28, 154, 0, 17, 42, 7, 42, 180, 0, 7, 5]
abbrev dktX5_turns_4 : List UInt8 := dkwX5_turns_4 ++ dktX5_turns_5
def dkwX5_turns_3 : List UInt8 := [27, 29, 5, 184, 0, 130, 42, 180, 0, 7, 27, 29, 6, 184, 0, 130, 46, 79, 42, 180, 0, 7, 27, 29]
abbrev dktX5_turns_3 : List UInt8 := dkwX5_turns_3 ++ dktX5_turns_4
def dkwX5_turns_2 : List UInt8 := [180, 0, 7, 27, 29, 6, 184, 0, 130, 46, 160, 0, 7, 3, 167, 0, 4, 4, 96, 61, 42, 180, 0, 7]
abbrev dktX5_turns_2 : List UInt8 := dkwX5_turns_2 ++ dktX5_turns_3
def dkwX5_turns_1 : List UInt8 := [27, 96, 46, 162, 0, 81, 42, 180, 0, 7, 27, 29, 5, 184, 0, 130, 46, 54, 4, 28, 21, 4, 42]
abbrev dktX5_turns_1 : List UInt8 := dkwX5_turns_1 ++ dktX5_turns_2
def dkwX5_turns_0 : List UInt8 := [27, 184, 0, 99, 154, 0, 10, 42, 16, 245, 182, 0, 84, 172, 3, 61, 3, 62, 29, 42, 180, 0, 7, 5]
abbrev dktX5_turns_0 : List UInt8 := dkwX5_turns_0 ++ dktX5_turns_1
theorem dksX5_turns_0 : cX5_turns.data.toList.drop 0 = dktX5_turns_0 := by decide +kernel
theorem dksX5_turns_1 : cX5_turns.data.toList.drop 24 = dktX5_turns_1 := dk_seg dksX5_turns_0 24 rfl rfl
theorem dksX5_turns_2 : cX5_turns.data.toList.drop 47 = dktX5_turns_2 := dk_seg dksX5_turns_1 23 rfl rfl
theorem dksX5_turns_3 : cX5_turns.data.toList.drop 71 = dktX5_turns_3 := dk_seg dksX5_turns_2 24 rfl rfl
theorem dksX5_turns_4 : cX5_turns.data.toList.drop 95 = dktX5_turns_4 := dk_seg dksX5_turns_3 24 rfl rfl
theorem dksX5_turns_5 : cX5_turns.data.toList.drop 119 = dktX5_turns_5 := dk_seg dksX5_turns_4 24 rfl rfl
theorem dX5_turns_0 : decode cX5_turns 0 = .ok (.iload_n 1, 1) := dk_27 (dk_at dksX5_turns_0 0 rfl rfl)
theorem dX5_turns_1 : decode cX5_turns 1 = .ok (.invokestatic 99, 3) := dk_184 0 99 (dk_at dksX5_turns_0 1 rfl rfl)
theorem dX5_turns_4 : decode cX5_turns 4 = .ok (.ifCond .ne 10, 3) := dk_154 0 10 (dk_at dksX5_turns_0 4 rfl rfl)
theorem dX5_turns_7 : decode cX5_turns 7 = .ok (.aload_n 0, 1) := dk_42 (dk_at dksX5_turns_0 7 rfl rfl)
theorem dX5_turns_8 : decode cX5_turns 8 = .ok (.bipush (-11), 2) := dk_16 245 (dk_at dksX5_turns_0 8 rfl rfl)
theorem dX5_turns_10 : decode cX5_turns 10 = .ok (.invokevirtual 84, 3) := dk_182 0 84 (dk_at dksX5_turns_0 10 rfl rfl)
theorem dX5_turns_13 : decode cX5_turns 13 = .ok (.ireturn, 1) := dk_172 (dk_at dksX5_turns_0 13 rfl rfl)
theorem dX5_turns_14 : decode cX5_turns 14 = .ok (.iconst 0, 1) := dk_3 (dk_at dksX5_turns_0 14 rfl rfl)
theorem dX5_turns_15 : decode cX5_turns 15 = .ok (.istore_n 2, 1) := dk_61 (dk_at dksX5_turns_0 15 rfl rfl)
theorem dX5_turns_16 : decode cX5_turns 16 = .ok (.iconst 0, 1) := dk_3 (dk_at dksX5_turns_0 16 rfl rfl)
theorem dX5_turns_17 : decode cX5_turns 17 = .ok (.istore_n 3, 1) := dk_62 (dk_at dksX5_turns_0 17 rfl rfl)
theorem dX5_turns_18 : decode cX5_turns 18 = .ok (.iload_n 3, 1) := dk_29 (dk_at dksX5_turns_0 18 rfl rfl)
theorem dX5_turns_19 : decode cX5_turns 19 = .ok (.aload_n 0, 1) := dk_42 (dk_at dksX5_turns_0 19 rfl rfl)
theorem dX5_turns_20 : decode cX5_turns 20 = .ok (.getfield 7, 3) := dk_180 0 7 (dk_at dksX5_turns_0 20 rfl rfl)
theorem dX5_turns_23 : decode cX5_turns 23 = .ok (.iconst 2, 1) := dk_5 (dk_at dksX5_turns_0 23 rfl rfl)
theorem dX5_turns_24 : decode cX5_turns 24 = .ok (.iload_n 1, 1) := dk_27 (dk_at dksX5_turns_1 0 rfl rfl)
theorem dX5_turns_25 : decode cX5_turns 25 = .ok (.iadd, 1) := dk_96 (dk_at dksX5_turns_1 1 rfl rfl)
theorem dX5_turns_26 : decode cX5_turns 26 = .ok (.iaload, 1) := dk_46 (dk_at dksX5_turns_1 2 rfl rfl)
theorem dX5_turns_27 : decode cX5_turns 27 = .ok (.if_icmp .ge 81, 3) := dk_162 0 81 (dk_at dksX5_turns_1 3 rfl rfl)
theorem dX5_turns_30 : decode cX5_turns 30 = .ok (.aload_n 0, 1) := dk_42 (dk_at dksX5_turns_1 6 rfl rfl)
theorem dX5_turns_31 : decode cX5_turns 31 = .ok (.getfield 7, 3) := dk_180 0 7 (dk_at dksX5_turns_1 7 rfl rfl)
theorem dX5_turns_34 : decode cX5_turns 34 = .ok (.iload_n 1, 1) := dk_27 (dk_at dksX5_turns_1 10 rfl rfl)
theorem dX5_turns_35 : decode cX5_turns 35 = .ok (.iload_n 3, 1) := dk_29 (dk_at dksX5_turns_1 11 rfl rfl)
theorem dX5_turns_36 : decode cX5_turns 36 = .ok (.iconst 2, 1) := dk_5 (dk_at dksX5_turns_1 12 rfl rfl)
theorem dX5_turns_37 : decode cX5_turns 37 = .ok (.invokestatic 130, 3) := dk_184 0 130 (dk_at dksX5_turns_1 13 rfl rfl)
theorem dX5_turns_40 : decode cX5_turns 40 = .ok (.iaload, 1) := dk_46 (dk_at dksX5_turns_1 16 rfl rfl)
theorem dX5_turns_41 : decode cX5_turns 41 = .ok (.istore 4, 2) := dk_54 4 (dk_at dksX5_turns_1 17 rfl rfl)
theorem dX5_turns_43 : decode cX5_turns 43 = .ok (.iload_n 2, 1) := dk_28 (dk_at dksX5_turns_1 19 rfl rfl)
theorem dX5_turns_44 : decode cX5_turns 44 = .ok (.iload 4, 2) := dk_21 4 (dk_at dksX5_turns_1 20 rfl rfl)
theorem dX5_turns_46 : decode cX5_turns 46 = .ok (.aload_n 0, 1) := dk_42 (dk_at dksX5_turns_1 22 rfl rfl)
theorem dX5_turns_47 : decode cX5_turns 47 = .ok (.getfield 7, 3) := dk_180 0 7 (dk_at dksX5_turns_2 0 rfl rfl)
theorem dX5_turns_50 : decode cX5_turns 50 = .ok (.iload_n 1, 1) := dk_27 (dk_at dksX5_turns_2 3 rfl rfl)
theorem dX5_turns_51 : decode cX5_turns 51 = .ok (.iload_n 3, 1) := dk_29 (dk_at dksX5_turns_2 4 rfl rfl)
theorem dX5_turns_52 : decode cX5_turns 52 = .ok (.iconst 3, 1) := dk_6 (dk_at dksX5_turns_2 5 rfl rfl)
theorem dX5_turns_53 : decode cX5_turns 53 = .ok (.invokestatic 130, 3) := dk_184 0 130 (dk_at dksX5_turns_2 6 rfl rfl)
theorem dX5_turns_56 : decode cX5_turns 56 = .ok (.iaload, 1) := dk_46 (dk_at dksX5_turns_2 9 rfl rfl)
theorem dX5_turns_57 : decode cX5_turns 57 = .ok (.if_icmp .ne 7, 3) := dk_160 0 7 (dk_at dksX5_turns_2 10 rfl rfl)
theorem dX5_turns_60 : decode cX5_turns 60 = .ok (.iconst 0, 1) := dk_3 (dk_at dksX5_turns_2 13 rfl rfl)
theorem dX5_turns_61 : decode cX5_turns 61 = .ok (.goto 4, 3) := dk_167 0 4 (dk_at dksX5_turns_2 14 rfl rfl)
theorem dX5_turns_64 : decode cX5_turns 64 = .ok (.iconst 1, 1) := dk_4 (dk_at dksX5_turns_2 17 rfl rfl)
theorem dX5_turns_65 : decode cX5_turns 65 = .ok (.iadd, 1) := dk_96 (dk_at dksX5_turns_2 18 rfl rfl)
theorem dX5_turns_66 : decode cX5_turns 66 = .ok (.istore_n 2, 1) := dk_61 (dk_at dksX5_turns_2 19 rfl rfl)
theorem dX5_turns_67 : decode cX5_turns 67 = .ok (.aload_n 0, 1) := dk_42 (dk_at dksX5_turns_2 20 rfl rfl)
theorem dX5_turns_68 : decode cX5_turns 68 = .ok (.getfield 7, 3) := dk_180 0 7 (dk_at dksX5_turns_2 21 rfl rfl)
theorem dX5_turns_71 : decode cX5_turns 71 = .ok (.iload_n 1, 1) := dk_27 (dk_at dksX5_turns_3 0 rfl rfl)
theorem dX5_turns_72 : decode cX5_turns 72 = .ok (.iload_n 3, 1) := dk_29 (dk_at dksX5_turns_3 1 rfl rfl)
theorem dX5_turns_73 : decode cX5_turns 73 = .ok (.iconst 2, 1) := dk_5 (dk_at dksX5_turns_3 2 rfl rfl)
theorem dX5_turns_74 : decode cX5_turns 74 = .ok (.invokestatic 130, 3) := dk_184 0 130 (dk_at dksX5_turns_3 3 rfl rfl)
theorem dX5_turns_77 : decode cX5_turns 77 = .ok (.aload_n 0, 1) := dk_42 (dk_at dksX5_turns_3 6 rfl rfl)
theorem dX5_turns_78 : decode cX5_turns 78 = .ok (.getfield 7, 3) := dk_180 0 7 (dk_at dksX5_turns_3 7 rfl rfl)
theorem dX5_turns_81 : decode cX5_turns 81 = .ok (.iload_n 1, 1) := dk_27 (dk_at dksX5_turns_3 10 rfl rfl)
theorem dX5_turns_82 : decode cX5_turns 82 = .ok (.iload_n 3, 1) := dk_29 (dk_at dksX5_turns_3 11 rfl rfl)
theorem dX5_turns_83 : decode cX5_turns 83 = .ok (.iconst 3, 1) := dk_6 (dk_at dksX5_turns_3 12 rfl rfl)
theorem dX5_turns_84 : decode cX5_turns 84 = .ok (.invokestatic 130, 3) := dk_184 0 130 (dk_at dksX5_turns_3 13 rfl rfl)
theorem dX5_turns_87 : decode cX5_turns 87 = .ok (.iaload, 1) := dk_46 (dk_at dksX5_turns_3 16 rfl rfl)
theorem dX5_turns_88 : decode cX5_turns 88 = .ok (.iastore, 1) := dk_79 (dk_at dksX5_turns_3 17 rfl rfl)
theorem dX5_turns_89 : decode cX5_turns 89 = .ok (.aload_n 0, 1) := dk_42 (dk_at dksX5_turns_3 18 rfl rfl)
theorem dX5_turns_90 : decode cX5_turns 90 = .ok (.getfield 7, 3) := dk_180 0 7 (dk_at dksX5_turns_3 19 rfl rfl)
theorem dX5_turns_93 : decode cX5_turns 93 = .ok (.iload_n 1, 1) := dk_27 (dk_at dksX5_turns_3 22 rfl rfl)
theorem dX5_turns_94 : decode cX5_turns 94 = .ok (.iload_n 3, 1) := dk_29 (dk_at dksX5_turns_3 23 rfl rfl)
theorem dX5_turns_95 : decode cX5_turns 95 = .ok (.iconst 3, 1) := dk_6 (dk_at dksX5_turns_4 0 rfl rfl)
theorem dX5_turns_96 : decode cX5_turns 96 = .ok (.invokestatic 130, 3) := dk_184 0 130 (dk_at dksX5_turns_4 1 rfl rfl)
theorem dX5_turns_99 : decode cX5_turns 99 = .ok (.iload 4, 2) := dk_21 4 (dk_at dksX5_turns_4 4 rfl rfl)
theorem dX5_turns_101 : decode cX5_turns 101 = .ok (.iastore, 1) := dk_79 (dk_at dksX5_turns_4 6 rfl rfl)
theorem dX5_turns_102 : decode cX5_turns 102 = .ok (.iinc 3 1, 3) := dk_132 3 1 (dk_at dksX5_turns_4 7 rfl rfl)
theorem dX5_turns_105 : decode cX5_turns 105 = .ok (.goto (-87), 3) := dk_167 255 169 (dk_at dksX5_turns_4 10 rfl rfl)
theorem dX5_turns_108 : decode cX5_turns 108 = .ok (.iload_n 2, 1) := dk_28 (dk_at dksX5_turns_4 13 rfl rfl)
theorem dX5_turns_109 : decode cX5_turns 109 = .ok (.ifCond .ne 17, 3) := dk_154 0 17 (dk_at dksX5_turns_4 14 rfl rfl)
theorem dX5_turns_112 : decode cX5_turns 112 = .ok (.aload_n 0, 1) := dk_42 (dk_at dksX5_turns_4 17 rfl rfl)
theorem dX5_turns_113 : decode cX5_turns 113 = .ok (.iconst 4, 1) := dk_7 (dk_at dksX5_turns_4 18 rfl rfl)
theorem dX5_turns_114 : decode cX5_turns 114 = .ok (.aload_n 0, 1) := dk_42 (dk_at dksX5_turns_4 19 rfl rfl)
theorem dX5_turns_115 : decode cX5_turns 115 = .ok (.getfield 7, 3) := dk_180 0 7 (dk_at dksX5_turns_4 20 rfl rfl)
theorem dX5_turns_118 : decode cX5_turns 118 = .ok (.iconst 2, 1) := dk_5 (dk_at dksX5_turns_4 23 rfl rfl)
theorem dX5_turns_119 : decode cX5_turns 119 = .ok (.iload_n 1, 1) := dk_27 (dk_at dksX5_turns_5 0 rfl rfl)
theorem dX5_turns_120 : decode cX5_turns 120 = .ok (.iadd, 1) := dk_96 (dk_at dksX5_turns_5 1 rfl rfl)
theorem dX5_turns_121 : decode cX5_turns 121 = .ok (.iaload, 1) := dk_46 (dk_at dksX5_turns_5 2 rfl rfl)
theorem dX5_turns_122 : decode cX5_turns 122 = .ok (.invokevirtual 103, 3) := dk_182 0 103 (dk_at dksX5_turns_5 3 rfl rfl)
theorem dX5_turns_125 : decode cX5_turns 125 = .ok (.ireturn, 1) := dk_172 (dk_at dksX5_turns_5 6 rfl rfl)
theorem dX5_turns_126 : decode cX5_turns 126 = .ok (.aload_n 0, 1) := dk_42 (dk_at dksX5_turns_5 7 rfl rfl)
theorem dX5_turns_127 : decode cX5_turns 127 = .ok (.getfield 7, 3) := dk_180 0 7 (dk_at dksX5_turns_5 8 rfl rfl)
theorem dX5_turns_130 : decode cX5_turns 130 = .ok (.bipush 16, 2) := dk_16 16 (dk_at dksX5_turns_5 11 rfl rfl)
theorem dX5_turns_132 : decode cX5_turns 132 = .ok (.dup2, 1) := dk_92 (dk_at dksX5_turns_5 13 rfl rfl)
theorem dX5_turns_133 : decode cX5_turns 133 = .ok (.iaload, 1) := dk_46 (dk_at dksX5_turns_5 14 rfl rfl)
theorem dX5_turns_134 : decode cX5_turns 134 = .ok (.iconst 1, 1) := dk_4 (dk_at dksX5_turns_5 15 rfl rfl)
theorem dX5_turns_135 : decode cX5_turns 135 = .ok (.iadd, 1) := dk_96 (dk_at dksX5_turns_5 16 rfl rfl)
theorem dX5_turns_136 : decode cX5_turns 136 = .ok (.iastore, 1) := dk_79 (dk_at dksX5_turns_5 17 rfl rfl)
theorem dX5_turns_137 : decode cX5_turns 137 = .ok (.iload_n 2, 1) := dk_28 (dk_at dksX5_turns_5 18 rfl rfl)
theorem dX5_turns_138 : decode cX5_turns 138 = .ok (.ireturn, 1) := dk_172 (dk_at dksX5_turns_5 19 rfl rfl)
abbrev cX5_arcOf : ByteArray := prog_19_method_27_code
def yX5_arcOf : MethodName := ⟨RX5, "arcOf", "(III)I"⟩
def dkwX5_arcOf_1 : List UInt8 := [180, 0, 7, 27, 28, 29, 184, 0, 130, 46, 167, 0, 5, 16, 244, 172]
abbrev dktX5_arcOf_1 : List UInt8 := dkwX5_arcOf_1 ++ []
def dkwX5_arcOf_0 : List UInt8 := [42, 27, 28, 182, 0, 141, 154, 0, 8, 16, 245, 167, 0, 28, 29, 3, 7, 184, 0, 95, 153, 0, 17, 42]
abbrev dktX5_arcOf_0 : List UInt8 := dkwX5_arcOf_0 ++ dktX5_arcOf_1
theorem dksX5_arcOf_0 : cX5_arcOf.data.toList.drop 0 = dktX5_arcOf_0 := by decide +kernel
theorem dksX5_arcOf_1 : cX5_arcOf.data.toList.drop 24 = dktX5_arcOf_1 := dk_seg dksX5_arcOf_0 24 rfl rfl
theorem dX5_arcOf_0 : decode cX5_arcOf 0 = .ok (.aload_n 0, 1) := dk_42 (dk_at dksX5_arcOf_0 0 rfl rfl)
theorem dX5_arcOf_1 : decode cX5_arcOf 1 = .ok (.iload_n 1, 1) := dk_27 (dk_at dksX5_arcOf_0 1 rfl rfl)
theorem dX5_arcOf_2 : decode cX5_arcOf 2 = .ok (.iload_n 2, 1) := dk_28 (dk_at dksX5_arcOf_0 2 rfl rfl)
theorem dX5_arcOf_3 : decode cX5_arcOf 3 = .ok (.invokevirtual 141, 3) := dk_182 0 141 (dk_at dksX5_arcOf_0 3 rfl rfl)
theorem dX5_arcOf_6 : decode cX5_arcOf 6 = .ok (.ifCond .ne 8, 3) := dk_154 0 8 (dk_at dksX5_arcOf_0 6 rfl rfl)
theorem dX5_arcOf_9 : decode cX5_arcOf 9 = .ok (.bipush (-11), 2) := dk_16 245 (dk_at dksX5_arcOf_0 9 rfl rfl)
theorem dX5_arcOf_11 : decode cX5_arcOf 11 = .ok (.goto 28, 3) := dk_167 0 28 (dk_at dksX5_arcOf_0 11 rfl rfl)
theorem dX5_arcOf_14 : decode cX5_arcOf 14 = .ok (.iload_n 3, 1) := dk_29 (dk_at dksX5_arcOf_0 14 rfl rfl)
theorem dX5_arcOf_15 : decode cX5_arcOf 15 = .ok (.iconst 0, 1) := dk_3 (dk_at dksX5_arcOf_0 15 rfl rfl)
theorem dX5_arcOf_16 : decode cX5_arcOf 16 = .ok (.iconst 4, 1) := dk_7 (dk_at dksX5_arcOf_0 16 rfl rfl)
theorem dX5_arcOf_17 : decode cX5_arcOf 17 = .ok (.invokestatic 95, 3) := dk_184 0 95 (dk_at dksX5_arcOf_0 17 rfl rfl)
theorem dX5_arcOf_20 : decode cX5_arcOf 20 = .ok (.ifCond .eq 17, 3) := dk_153 0 17 (dk_at dksX5_arcOf_0 20 rfl rfl)
theorem dX5_arcOf_23 : decode cX5_arcOf 23 = .ok (.aload_n 0, 1) := dk_42 (dk_at dksX5_arcOf_0 23 rfl rfl)
theorem dX5_arcOf_24 : decode cX5_arcOf 24 = .ok (.getfield 7, 3) := dk_180 0 7 (dk_at dksX5_arcOf_1 0 rfl rfl)
theorem dX5_arcOf_27 : decode cX5_arcOf 27 = .ok (.iload_n 1, 1) := dk_27 (dk_at dksX5_arcOf_1 3 rfl rfl)
theorem dX5_arcOf_28 : decode cX5_arcOf 28 = .ok (.iload_n 2, 1) := dk_28 (dk_at dksX5_arcOf_1 4 rfl rfl)
theorem dX5_arcOf_29 : decode cX5_arcOf 29 = .ok (.iload_n 3, 1) := dk_29 (dk_at dksX5_arcOf_1 5 rfl rfl)
theorem dX5_arcOf_30 : decode cX5_arcOf 30 = .ok (.invokestatic 130, 3) := dk_184 0 130 (dk_at dksX5_arcOf_1 6 rfl rfl)
theorem dX5_arcOf_33 : decode cX5_arcOf 33 = .ok (.iaload, 1) := dk_46 (dk_at dksX5_arcOf_1 9 rfl rfl)
theorem dX5_arcOf_34 : decode cX5_arcOf 34 = .ok (.goto 5, 3) := dk_167 0 5 (dk_at dksX5_arcOf_1 10 rfl rfl)
theorem dX5_arcOf_37 : decode cX5_arcOf 37 = .ok (.bipush (-12), 2) := dk_16 244 (dk_at dksX5_arcOf_1 13 rfl rfl)
theorem dX5_arcOf_39 : decode cX5_arcOf 39 = .ok (.ireturn, 1) := dk_172 (dk_at dksX5_arcOf_1 15 rfl rfl)
abbrev cX5_stateOf : ByteArray := prog_19_method_36_code
def yX5_stateOf : MethodName := ⟨RX5, "stateOf", "(III)I"⟩
def dkwX5_stateOf_4 : List UInt8 := [28, 46, 172, 42, 28, 4, 182, 0, 180, 172, 16, 244, 172]
abbrev dktX5_stateOf_4 : List UInt8 := dkwX5_stateOf_4 ++ []
def dkwX5_stateOf_3 : List UInt8 := [4, 160, 0, 7, 4, 167, 0, 4, 3, 182, 0, 176, 172, 42, 180, 0, 40, 28, 46, 172, 42, 180, 0, 43]
abbrev dktX5_stateOf_3 : List UInt8 := dkwX5_stateOf_3 ++ dktX5_stateOf_4
def dkwX5_stateOf_2 : List UInt8 := [42, 180, 0, 37, 28, 46, 156, 0, 8, 16, 241, 167, 0, 9, 42, 180, 0, 37, 28, 46, 172, 42, 28, 29]
abbrev dktX5_stateOf_2 : List UInt8 := dkwX5_stateOf_2 ++ dktX5_stateOf_3
def dkwX5_stateOf_1 : List UInt8 := [170, 0, 0, 0, 0, 96, 0, 0, 0, 0, 0, 0, 0, 5, 0, 0, 0, 38, 0, 0, 0, 59, 0, 0, 0, 59, 0, 0, 0, 75, 0, 0, 0, 82, 0, 0, 0, 89]
abbrev dktX5_stateOf_1 : List UInt8 := dkwX5_stateOf_1 ++ dktX5_stateOf_2
def dkwX5_stateOf_0 : List UInt8 := [42, 27, 28, 182, 0, 119, 154, 0, 6, 16, 245, 172, 42, 27, 182, 0, 170, 42, 182, 0, 173, 29]
abbrev dktX5_stateOf_0 : List UInt8 := dkwX5_stateOf_0 ++ dktX5_stateOf_1
theorem dksX5_stateOf_0 : cX5_stateOf.data.toList.drop 0 = dktX5_stateOf_0 := by decide +kernel
theorem dksX5_stateOf_1 : cX5_stateOf.data.toList.drop 22 = dktX5_stateOf_1 := dk_seg dksX5_stateOf_0 22 rfl rfl
theorem dksX5_stateOf_2 : cX5_stateOf.data.toList.drop 60 = dktX5_stateOf_2 := dk_seg dksX5_stateOf_1 38 rfl rfl
theorem dksX5_stateOf_3 : cX5_stateOf.data.toList.drop 84 = dktX5_stateOf_3 := dk_seg dksX5_stateOf_2 24 rfl rfl
theorem dksX5_stateOf_4 : cX5_stateOf.data.toList.drop 108 = dktX5_stateOf_4 := dk_seg dksX5_stateOf_3 24 rfl rfl
theorem dX5_stateOf_0 : decode cX5_stateOf 0 = .ok (.aload_n 0, 1) := dk_42 (dk_at dksX5_stateOf_0 0 rfl rfl)
theorem dX5_stateOf_1 : decode cX5_stateOf 1 = .ok (.iload_n 1, 1) := dk_27 (dk_at dksX5_stateOf_0 1 rfl rfl)
theorem dX5_stateOf_2 : decode cX5_stateOf 2 = .ok (.iload_n 2, 1) := dk_28 (dk_at dksX5_stateOf_0 2 rfl rfl)
theorem dX5_stateOf_3 : decode cX5_stateOf 3 = .ok (.invokevirtual 119, 3) := dk_182 0 119 (dk_at dksX5_stateOf_0 3 rfl rfl)
theorem dX5_stateOf_6 : decode cX5_stateOf 6 = .ok (.ifCond .ne 6, 3) := dk_154 0 6 (dk_at dksX5_stateOf_0 6 rfl rfl)
theorem dX5_stateOf_9 : decode cX5_stateOf 9 = .ok (.bipush (-11), 2) := dk_16 245 (dk_at dksX5_stateOf_0 9 rfl rfl)
theorem dX5_stateOf_11 : decode cX5_stateOf 11 = .ok (.ireturn, 1) := dk_172 (dk_at dksX5_stateOf_0 11 rfl rfl)
theorem dX5_stateOf_12 : decode cX5_stateOf 12 = .ok (.aload_n 0, 1) := dk_42 (dk_at dksX5_stateOf_0 12 rfl rfl)
theorem dX5_stateOf_13 : decode cX5_stateOf 13 = .ok (.iload_n 1, 1) := dk_27 (dk_at dksX5_stateOf_0 13 rfl rfl)
theorem dX5_stateOf_14 : decode cX5_stateOf 14 = .ok (.invokevirtual 170, 3) := dk_182 0 170 (dk_at dksX5_stateOf_0 14 rfl rfl)
theorem dX5_stateOf_17 : decode cX5_stateOf 17 = .ok (.aload_n 0, 1) := dk_42 (dk_at dksX5_stateOf_0 17 rfl rfl)
theorem dX5_stateOf_18 : decode cX5_stateOf 18 = .ok (.invokevirtual 173, 3) := dk_182 0 173 (dk_at dksX5_stateOf_0 18 rfl rfl)
theorem dX5_stateOf_21 : decode cX5_stateOf 21 = .ok (.iload_n 3, 1) := dk_29 (dk_at dksX5_stateOf_0 21 rfl rfl)
theorem dX5_stateOf_22 : decode cX5_stateOf 22 = .ok (.tableswitch 96 0 5 #[38, 59, 59, 75, 82, 89], 38) := by decide +kernel
theorem dX5_stateOf_60 : decode cX5_stateOf 60 = .ok (.aload_n 0, 1) := dk_42 (dk_at dksX5_stateOf_2 0 rfl rfl)
theorem dX5_stateOf_61 : decode cX5_stateOf 61 = .ok (.getfield 37, 3) := dk_180 0 37 (dk_at dksX5_stateOf_2 1 rfl rfl)
theorem dX5_stateOf_64 : decode cX5_stateOf 64 = .ok (.iload_n 2, 1) := dk_28 (dk_at dksX5_stateOf_2 4 rfl rfl)
theorem dX5_stateOf_65 : decode cX5_stateOf 65 = .ok (.iaload, 1) := dk_46 (dk_at dksX5_stateOf_2 5 rfl rfl)
theorem dX5_stateOf_66 : decode cX5_stateOf 66 = .ok (.ifCond .ge 8, 3) := dk_156 0 8 (dk_at dksX5_stateOf_2 6 rfl rfl)
theorem dX5_stateOf_69 : decode cX5_stateOf 69 = .ok (.bipush (-15), 2) := dk_16 241 (dk_at dksX5_stateOf_2 9 rfl rfl)
theorem dX5_stateOf_71 : decode cX5_stateOf 71 = .ok (.goto 9, 3) := dk_167 0 9 (dk_at dksX5_stateOf_2 11 rfl rfl)
theorem dX5_stateOf_74 : decode cX5_stateOf 74 = .ok (.aload_n 0, 1) := dk_42 (dk_at dksX5_stateOf_2 14 rfl rfl)
theorem dX5_stateOf_75 : decode cX5_stateOf 75 = .ok (.getfield 37, 3) := dk_180 0 37 (dk_at dksX5_stateOf_2 15 rfl rfl)
theorem dX5_stateOf_78 : decode cX5_stateOf 78 = .ok (.iload_n 2, 1) := dk_28 (dk_at dksX5_stateOf_2 18 rfl rfl)
theorem dX5_stateOf_79 : decode cX5_stateOf 79 = .ok (.iaload, 1) := dk_46 (dk_at dksX5_stateOf_2 19 rfl rfl)
theorem dX5_stateOf_80 : decode cX5_stateOf 80 = .ok (.ireturn, 1) := dk_172 (dk_at dksX5_stateOf_2 20 rfl rfl)
theorem dX5_stateOf_81 : decode cX5_stateOf 81 = .ok (.aload_n 0, 1) := dk_42 (dk_at dksX5_stateOf_2 21 rfl rfl)
theorem dX5_stateOf_82 : decode cX5_stateOf 82 = .ok (.iload_n 2, 1) := dk_28 (dk_at dksX5_stateOf_2 22 rfl rfl)
theorem dX5_stateOf_83 : decode cX5_stateOf 83 = .ok (.iload_n 3, 1) := dk_29 (dk_at dksX5_stateOf_2 23 rfl rfl)
theorem dX5_stateOf_84 : decode cX5_stateOf 84 = .ok (.iconst 1, 1) := dk_4 (dk_at dksX5_stateOf_3 0 rfl rfl)
theorem dX5_stateOf_85 : decode cX5_stateOf 85 = .ok (.if_icmp .ne 7, 3) := dk_160 0 7 (dk_at dksX5_stateOf_3 1 rfl rfl)
theorem dX5_stateOf_88 : decode cX5_stateOf 88 = .ok (.iconst 1, 1) := dk_4 (dk_at dksX5_stateOf_3 4 rfl rfl)
theorem dX5_stateOf_89 : decode cX5_stateOf 89 = .ok (.goto 4, 3) := dk_167 0 4 (dk_at dksX5_stateOf_3 5 rfl rfl)
theorem dX5_stateOf_92 : decode cX5_stateOf 92 = .ok (.iconst 0, 1) := dk_3 (dk_at dksX5_stateOf_3 8 rfl rfl)
theorem dX5_stateOf_93 : decode cX5_stateOf 93 = .ok (.invokevirtual 176, 3) := dk_182 0 176 (dk_at dksX5_stateOf_3 9 rfl rfl)
theorem dX5_stateOf_96 : decode cX5_stateOf 96 = .ok (.ireturn, 1) := dk_172 (dk_at dksX5_stateOf_3 12 rfl rfl)
theorem dX5_stateOf_97 : decode cX5_stateOf 97 = .ok (.aload_n 0, 1) := dk_42 (dk_at dksX5_stateOf_3 13 rfl rfl)
theorem dX5_stateOf_98 : decode cX5_stateOf 98 = .ok (.getfield 40, 3) := dk_180 0 40 (dk_at dksX5_stateOf_3 14 rfl rfl)
theorem dX5_stateOf_101 : decode cX5_stateOf 101 = .ok (.iload_n 2, 1) := dk_28 (dk_at dksX5_stateOf_3 17 rfl rfl)
theorem dX5_stateOf_102 : decode cX5_stateOf 102 = .ok (.iaload, 1) := dk_46 (dk_at dksX5_stateOf_3 18 rfl rfl)
theorem dX5_stateOf_103 : decode cX5_stateOf 103 = .ok (.ireturn, 1) := dk_172 (dk_at dksX5_stateOf_3 19 rfl rfl)
theorem dX5_stateOf_104 : decode cX5_stateOf 104 = .ok (.aload_n 0, 1) := dk_42 (dk_at dksX5_stateOf_3 20 rfl rfl)
theorem dX5_stateOf_105 : decode cX5_stateOf 105 = .ok (.getfield 43, 3) := dk_180 0 43 (dk_at dksX5_stateOf_3 21 rfl rfl)
theorem dX5_stateOf_108 : decode cX5_stateOf 108 = .ok (.iload_n 2, 1) := dk_28 (dk_at dksX5_stateOf_4 0 rfl rfl)
theorem dX5_stateOf_109 : decode cX5_stateOf 109 = .ok (.iaload, 1) := dk_46 (dk_at dksX5_stateOf_4 1 rfl rfl)
theorem dX5_stateOf_110 : decode cX5_stateOf 110 = .ok (.ireturn, 1) := dk_172 (dk_at dksX5_stateOf_4 2 rfl rfl)
theorem dX5_stateOf_111 : decode cX5_stateOf 111 = .ok (.aload_n 0, 1) := dk_42 (dk_at dksX5_stateOf_4 3 rfl rfl)
theorem dX5_stateOf_112 : decode cX5_stateOf 112 = .ok (.iload_n 2, 1) := dk_28 (dk_at dksX5_stateOf_4 4 rfl rfl)
theorem dX5_stateOf_113 : decode cX5_stateOf 113 = .ok (.iconst 1, 1) := dk_4 (dk_at dksX5_stateOf_4 5 rfl rfl)
theorem dX5_stateOf_114 : decode cX5_stateOf 114 = .ok (.invokevirtual 180, 3) := dk_182 0 180 (dk_at dksX5_stateOf_4 6 rfl rfl)
theorem dX5_stateOf_117 : decode cX5_stateOf 117 = .ok (.ireturn, 1) := dk_172 (dk_at dksX5_stateOf_4 9 rfl rfl)
theorem dX5_stateOf_118 : decode cX5_stateOf 118 = .ok (.bipush (-12), 2) := dk_16 244 (dk_at dksX5_stateOf_4 10 rfl rfl)
theorem dX5_stateOf_120 : decode cX5_stateOf 120 = .ok (.ireturn, 1) := dk_172 (dk_at dksX5_stateOf_4 12 rfl rfl)
abbrev cX5_laysRule : ByteArray := prog_19_method_29_code
def yX5_laysRule : MethodName := ⟨RX5, "laysRule", "(I)V"⟩
def dkwX5_laysRule_5 : List UInt8 := [184, 0, 130, 46, 182, 0, 159, 132, 2, 1, 167, 255, 182, 177]
abbrev dktX5_laysRule_5 : List UInt8 := dkwX5_laysRule_5 ++ []
def dkwX5_laysRule_4 : List UInt8 := [184, 0, 130, 46, 42, 180, 0, 7, 27, 28, 6, 184, 0, 130, 46, 42, 180, 0, 7, 27, 28, 7]
abbrev dktX5_laysRule_4 : List UInt8 := dkwX5_laysRule_4 ++ dktX5_laysRule_5
def dkwX5_laysRule_3 : List UInt8 := [3, 184, 0, 130, 46, 42, 180, 0, 7, 27, 28, 4, 184, 0, 130, 46, 42, 180, 0, 7, 27, 28, 5]
abbrev dktX5_laysRule_3 : List UInt8 := dkwX5_laysRule_3 ++ dktX5_laysRule_4
def dkwX5_laysRule_2 : List UInt8 := [167, 255, 229, 3, 61, 28, 42, 180, 0, 7, 5, 27, 96, 46, 162, 0, 68, 42, 42, 180, 0, 7, 27, 28]
abbrev dktX5_laysRule_2 : List UInt8 := dkwX5_laysRule_2 ++ dktX5_laysRule_3
def dkwX5_laysRule_1 : List UInt8 := [162, 0, 25, 42, 180, 0, 37, 28, 42, 180, 0, 7, 27, 28, 184, 0, 107, 46, 79, 132, 2, 1]
abbrev dktX5_laysRule_1 : List UInt8 := dkwX5_laysRule_1 ++ dktX5_laysRule_2
def dkwX5_laysRule_0 : List UInt8 := [42, 3, 181, 0, 153, 42, 42, 180, 0, 7, 3, 27, 96, 46, 181, 0, 156, 3, 61, 28, 42, 180, 0, 156]
abbrev dktX5_laysRule_0 : List UInt8 := dkwX5_laysRule_0 ++ dktX5_laysRule_1
theorem dksX5_laysRule_0 : cX5_laysRule.data.toList.drop 0 = dktX5_laysRule_0 := by decide +kernel
theorem dksX5_laysRule_1 : cX5_laysRule.data.toList.drop 24 = dktX5_laysRule_1 := dk_seg dksX5_laysRule_0 24 rfl rfl
theorem dksX5_laysRule_2 : cX5_laysRule.data.toList.drop 46 = dktX5_laysRule_2 := dk_seg dksX5_laysRule_1 22 rfl rfl
theorem dksX5_laysRule_3 : cX5_laysRule.data.toList.drop 70 = dktX5_laysRule_3 := dk_seg dksX5_laysRule_2 24 rfl rfl
theorem dksX5_laysRule_4 : cX5_laysRule.data.toList.drop 93 = dktX5_laysRule_4 := dk_seg dksX5_laysRule_3 23 rfl rfl
theorem dksX5_laysRule_5 : cX5_laysRule.data.toList.drop 115 = dktX5_laysRule_5 := dk_seg dksX5_laysRule_4 22 rfl rfl
theorem dX5_laysRule_0 : decode cX5_laysRule 0 = .ok (.aload_n 0, 1) := dk_42 (dk_at dksX5_laysRule_0 0 rfl rfl)
theorem dX5_laysRule_1 : decode cX5_laysRule 1 = .ok (.iconst 0, 1) := dk_3 (dk_at dksX5_laysRule_0 1 rfl rfl)
theorem dX5_laysRule_2 : decode cX5_laysRule 2 = .ok (.putfield 153, 3) := dk_181 0 153 (dk_at dksX5_laysRule_0 2 rfl rfl)
theorem dX5_laysRule_5 : decode cX5_laysRule 5 = .ok (.aload_n 0, 1) := dk_42 (dk_at dksX5_laysRule_0 5 rfl rfl)
theorem dX5_laysRule_6 : decode cX5_laysRule 6 = .ok (.aload_n 0, 1) := dk_42 (dk_at dksX5_laysRule_0 6 rfl rfl)
theorem dX5_laysRule_7 : decode cX5_laysRule 7 = .ok (.getfield 7, 3) := dk_180 0 7 (dk_at dksX5_laysRule_0 7 rfl rfl)
theorem dX5_laysRule_10 : decode cX5_laysRule 10 = .ok (.iconst 0, 1) := dk_3 (dk_at dksX5_laysRule_0 10 rfl rfl)
theorem dX5_laysRule_11 : decode cX5_laysRule 11 = .ok (.iload_n 1, 1) := dk_27 (dk_at dksX5_laysRule_0 11 rfl rfl)
theorem dX5_laysRule_12 : decode cX5_laysRule 12 = .ok (.iadd, 1) := dk_96 (dk_at dksX5_laysRule_0 12 rfl rfl)
theorem dX5_laysRule_13 : decode cX5_laysRule 13 = .ok (.iaload, 1) := dk_46 (dk_at dksX5_laysRule_0 13 rfl rfl)
theorem dX5_laysRule_14 : decode cX5_laysRule 14 = .ok (.putfield 156, 3) := dk_181 0 156 (dk_at dksX5_laysRule_0 14 rfl rfl)
theorem dX5_laysRule_17 : decode cX5_laysRule 17 = .ok (.iconst 0, 1) := dk_3 (dk_at dksX5_laysRule_0 17 rfl rfl)
theorem dX5_laysRule_18 : decode cX5_laysRule 18 = .ok (.istore_n 2, 1) := dk_61 (dk_at dksX5_laysRule_0 18 rfl rfl)
theorem dX5_laysRule_19 : decode cX5_laysRule 19 = .ok (.iload_n 2, 1) := dk_28 (dk_at dksX5_laysRule_0 19 rfl rfl)
theorem dX5_laysRule_20 : decode cX5_laysRule 20 = .ok (.aload_n 0, 1) := dk_42 (dk_at dksX5_laysRule_0 20 rfl rfl)
theorem dX5_laysRule_21 : decode cX5_laysRule 21 = .ok (.getfield 156, 3) := dk_180 0 156 (dk_at dksX5_laysRule_0 21 rfl rfl)
theorem dX5_laysRule_24 : decode cX5_laysRule 24 = .ok (.if_icmp .ge 25, 3) := dk_162 0 25 (dk_at dksX5_laysRule_1 0 rfl rfl)
theorem dX5_laysRule_27 : decode cX5_laysRule 27 = .ok (.aload_n 0, 1) := dk_42 (dk_at dksX5_laysRule_1 3 rfl rfl)
theorem dX5_laysRule_28 : decode cX5_laysRule 28 = .ok (.getfield 37, 3) := dk_180 0 37 (dk_at dksX5_laysRule_1 4 rfl rfl)
theorem dX5_laysRule_31 : decode cX5_laysRule 31 = .ok (.iload_n 2, 1) := dk_28 (dk_at dksX5_laysRule_1 7 rfl rfl)
theorem dX5_laysRule_32 : decode cX5_laysRule 32 = .ok (.aload_n 0, 1) := dk_42 (dk_at dksX5_laysRule_1 8 rfl rfl)
theorem dX5_laysRule_33 : decode cX5_laysRule 33 = .ok (.getfield 7, 3) := dk_180 0 7 (dk_at dksX5_laysRule_1 9 rfl rfl)
theorem dX5_laysRule_36 : decode cX5_laysRule 36 = .ok (.iload_n 1, 1) := dk_27 (dk_at dksX5_laysRule_1 12 rfl rfl)
theorem dX5_laysRule_37 : decode cX5_laysRule 37 = .ok (.iload_n 2, 1) := dk_28 (dk_at dksX5_laysRule_1 13 rfl rfl)
theorem dX5_laysRule_38 : decode cX5_laysRule 38 = .ok (.invokestatic 107, 3) := dk_184 0 107 (dk_at dksX5_laysRule_1 14 rfl rfl)
theorem dX5_laysRule_41 : decode cX5_laysRule 41 = .ok (.iaload, 1) := dk_46 (dk_at dksX5_laysRule_1 17 rfl rfl)
theorem dX5_laysRule_42 : decode cX5_laysRule 42 = .ok (.iastore, 1) := dk_79 (dk_at dksX5_laysRule_1 18 rfl rfl)
theorem dX5_laysRule_43 : decode cX5_laysRule 43 = .ok (.iinc 2 1, 3) := dk_132 2 1 (dk_at dksX5_laysRule_1 19 rfl rfl)
theorem dX5_laysRule_46 : decode cX5_laysRule 46 = .ok (.goto (-27), 3) := dk_167 255 229 (dk_at dksX5_laysRule_2 0 rfl rfl)
theorem dX5_laysRule_49 : decode cX5_laysRule 49 = .ok (.iconst 0, 1) := dk_3 (dk_at dksX5_laysRule_2 3 rfl rfl)
theorem dX5_laysRule_50 : decode cX5_laysRule 50 = .ok (.istore_n 2, 1) := dk_61 (dk_at dksX5_laysRule_2 4 rfl rfl)
theorem dX5_laysRule_51 : decode cX5_laysRule 51 = .ok (.iload_n 2, 1) := dk_28 (dk_at dksX5_laysRule_2 5 rfl rfl)
theorem dX5_laysRule_52 : decode cX5_laysRule 52 = .ok (.aload_n 0, 1) := dk_42 (dk_at dksX5_laysRule_2 6 rfl rfl)
theorem dX5_laysRule_53 : decode cX5_laysRule 53 = .ok (.getfield 7, 3) := dk_180 0 7 (dk_at dksX5_laysRule_2 7 rfl rfl)
theorem dX5_laysRule_56 : decode cX5_laysRule 56 = .ok (.iconst 2, 1) := dk_5 (dk_at dksX5_laysRule_2 10 rfl rfl)
theorem dX5_laysRule_57 : decode cX5_laysRule 57 = .ok (.iload_n 1, 1) := dk_27 (dk_at dksX5_laysRule_2 11 rfl rfl)
theorem dX5_laysRule_58 : decode cX5_laysRule 58 = .ok (.iadd, 1) := dk_96 (dk_at dksX5_laysRule_2 12 rfl rfl)
theorem dX5_laysRule_59 : decode cX5_laysRule 59 = .ok (.iaload, 1) := dk_46 (dk_at dksX5_laysRule_2 13 rfl rfl)
theorem dX5_laysRule_60 : decode cX5_laysRule 60 = .ok (.if_icmp .ge 68, 3) := dk_162 0 68 (dk_at dksX5_laysRule_2 14 rfl rfl)
theorem dX5_laysRule_63 : decode cX5_laysRule 63 = .ok (.aload_n 0, 1) := dk_42 (dk_at dksX5_laysRule_2 17 rfl rfl)
theorem dX5_laysRule_64 : decode cX5_laysRule 64 = .ok (.aload_n 0, 1) := dk_42 (dk_at dksX5_laysRule_2 18 rfl rfl)
theorem dX5_laysRule_65 : decode cX5_laysRule 65 = .ok (.getfield 7, 3) := dk_180 0 7 (dk_at dksX5_laysRule_2 19 rfl rfl)
theorem dX5_laysRule_68 : decode cX5_laysRule 68 = .ok (.iload_n 1, 1) := dk_27 (dk_at dksX5_laysRule_2 22 rfl rfl)
theorem dX5_laysRule_69 : decode cX5_laysRule 69 = .ok (.iload_n 2, 1) := dk_28 (dk_at dksX5_laysRule_2 23 rfl rfl)
theorem dX5_laysRule_70 : decode cX5_laysRule 70 = .ok (.iconst 0, 1) := dk_3 (dk_at dksX5_laysRule_3 0 rfl rfl)
theorem dX5_laysRule_71 : decode cX5_laysRule 71 = .ok (.invokestatic 130, 3) := dk_184 0 130 (dk_at dksX5_laysRule_3 1 rfl rfl)
theorem dX5_laysRule_74 : decode cX5_laysRule 74 = .ok (.iaload, 1) := dk_46 (dk_at dksX5_laysRule_3 4 rfl rfl)
theorem dX5_laysRule_75 : decode cX5_laysRule 75 = .ok (.aload_n 0, 1) := dk_42 (dk_at dksX5_laysRule_3 5 rfl rfl)
theorem dX5_laysRule_76 : decode cX5_laysRule 76 = .ok (.getfield 7, 3) := dk_180 0 7 (dk_at dksX5_laysRule_3 6 rfl rfl)
theorem dX5_laysRule_79 : decode cX5_laysRule 79 = .ok (.iload_n 1, 1) := dk_27 (dk_at dksX5_laysRule_3 9 rfl rfl)
theorem dX5_laysRule_80 : decode cX5_laysRule 80 = .ok (.iload_n 2, 1) := dk_28 (dk_at dksX5_laysRule_3 10 rfl rfl)
theorem dX5_laysRule_81 : decode cX5_laysRule 81 = .ok (.iconst 1, 1) := dk_4 (dk_at dksX5_laysRule_3 11 rfl rfl)
theorem dX5_laysRule_82 : decode cX5_laysRule 82 = .ok (.invokestatic 130, 3) := dk_184 0 130 (dk_at dksX5_laysRule_3 12 rfl rfl)
theorem dX5_laysRule_85 : decode cX5_laysRule 85 = .ok (.iaload, 1) := dk_46 (dk_at dksX5_laysRule_3 15 rfl rfl)
theorem dX5_laysRule_86 : decode cX5_laysRule 86 = .ok (.aload_n 0, 1) := dk_42 (dk_at dksX5_laysRule_3 16 rfl rfl)
theorem dX5_laysRule_87 : decode cX5_laysRule 87 = .ok (.getfield 7, 3) := dk_180 0 7 (dk_at dksX5_laysRule_3 17 rfl rfl)
theorem dX5_laysRule_90 : decode cX5_laysRule 90 = .ok (.iload_n 1, 1) := dk_27 (dk_at dksX5_laysRule_3 20 rfl rfl)
theorem dX5_laysRule_91 : decode cX5_laysRule 91 = .ok (.iload_n 2, 1) := dk_28 (dk_at dksX5_laysRule_3 21 rfl rfl)
theorem dX5_laysRule_92 : decode cX5_laysRule 92 = .ok (.iconst 2, 1) := dk_5 (dk_at dksX5_laysRule_3 22 rfl rfl)
theorem dX5_laysRule_93 : decode cX5_laysRule 93 = .ok (.invokestatic 130, 3) := dk_184 0 130 (dk_at dksX5_laysRule_4 0 rfl rfl)
theorem dX5_laysRule_96 : decode cX5_laysRule 96 = .ok (.iaload, 1) := dk_46 (dk_at dksX5_laysRule_4 3 rfl rfl)
theorem dX5_laysRule_97 : decode cX5_laysRule 97 = .ok (.aload_n 0, 1) := dk_42 (dk_at dksX5_laysRule_4 4 rfl rfl)
theorem dX5_laysRule_98 : decode cX5_laysRule 98 = .ok (.getfield 7, 3) := dk_180 0 7 (dk_at dksX5_laysRule_4 5 rfl rfl)
theorem dX5_laysRule_101 : decode cX5_laysRule 101 = .ok (.iload_n 1, 1) := dk_27 (dk_at dksX5_laysRule_4 8 rfl rfl)
theorem dX5_laysRule_102 : decode cX5_laysRule 102 = .ok (.iload_n 2, 1) := dk_28 (dk_at dksX5_laysRule_4 9 rfl rfl)
theorem dX5_laysRule_103 : decode cX5_laysRule 103 = .ok (.iconst 3, 1) := dk_6 (dk_at dksX5_laysRule_4 10 rfl rfl)
theorem dX5_laysRule_104 : decode cX5_laysRule 104 = .ok (.invokestatic 130, 3) := dk_184 0 130 (dk_at dksX5_laysRule_4 11 rfl rfl)
theorem dX5_laysRule_107 : decode cX5_laysRule 107 = .ok (.iaload, 1) := dk_46 (dk_at dksX5_laysRule_4 14 rfl rfl)
theorem dX5_laysRule_108 : decode cX5_laysRule 108 = .ok (.aload_n 0, 1) := dk_42 (dk_at dksX5_laysRule_4 15 rfl rfl)
theorem dX5_laysRule_109 : decode cX5_laysRule 109 = .ok (.getfield 7, 3) := dk_180 0 7 (dk_at dksX5_laysRule_4 16 rfl rfl)
theorem dX5_laysRule_112 : decode cX5_laysRule 112 = .ok (.iload_n 1, 1) := dk_27 (dk_at dksX5_laysRule_4 19 rfl rfl)
theorem dX5_laysRule_113 : decode cX5_laysRule 113 = .ok (.iload_n 2, 1) := dk_28 (dk_at dksX5_laysRule_4 20 rfl rfl)
theorem dX5_laysRule_114 : decode cX5_laysRule 114 = .ok (.iconst 4, 1) := dk_7 (dk_at dksX5_laysRule_4 21 rfl rfl)
theorem dX5_laysRule_115 : decode cX5_laysRule 115 = .ok (.invokestatic 130, 3) := dk_184 0 130 (dk_at dksX5_laysRule_5 0 rfl rfl)
theorem dX5_laysRule_118 : decode cX5_laysRule 118 = .ok (.iaload, 1) := dk_46 (dk_at dksX5_laysRule_5 3 rfl rfl)
theorem dX5_laysRule_119 : decode cX5_laysRule 119 = .ok (.invokevirtual 159, 3) := dk_182 0 159 (dk_at dksX5_laysRule_5 4 rfl rfl)
theorem dX5_laysRule_122 : decode cX5_laysRule 122 = .ok (.iinc 2 1, 3) := dk_132 2 1 (dk_at dksX5_laysRule_5 7 rfl rfl)
theorem dX5_laysRule_125 : decode cX5_laysRule 125 = .ok (.goto (-74), 3) := dk_167 255 182 (dk_at dksX5_laysRule_5 10 rfl rfl)
theorem dX5_laysRule_128 : decode cX5_laysRule 128 = .ok (.return_, 1) := dk_177 (dk_at dksX5_laysRule_5 13 rfl rfl)
abbrev cX5_lay : ByteArray := prog_19_method_28_code
def yX5_lay : MethodName := ⟨RX5, "lay", "(IIIII)V"⟩
def dkwX5_lay_2 : List UInt8 := [180, 0, 153, 21, 5, 79, 42, 89, 180, 0, 153, 4, 96, 181, 0, 153, 177]
abbrev dktX5_lay_2 : List UInt8 := dkwX5_lay_2 ++ []
def dkwX5_lay_1 : List UInt8 := [42, 180, 0, 153, 29, 79, 42, 180, 0, 31, 42, 180, 0, 153, 21, 4, 79, 42, 180, 0, 34, 42]
abbrev dktX5_lay_1 : List UInt8 := dkwX5_lay_1 ++ dktX5_lay_2
def dkwX5_lay_0 : List UInt8 := [42, 180, 0, 22, 42, 180, 0, 153, 27, 79, 42, 180, 0, 25, 42, 180, 0, 153, 28, 79, 42, 180, 0, 28]
abbrev dktX5_lay_0 : List UInt8 := dkwX5_lay_0 ++ dktX5_lay_1
theorem dksX5_lay_0 : cX5_lay.data.toList.drop 0 = dktX5_lay_0 := by decide +kernel
theorem dksX5_lay_1 : cX5_lay.data.toList.drop 24 = dktX5_lay_1 := dk_seg dksX5_lay_0 24 rfl rfl
theorem dksX5_lay_2 : cX5_lay.data.toList.drop 46 = dktX5_lay_2 := dk_seg dksX5_lay_1 22 rfl rfl
theorem dX5_lay_0 : decode cX5_lay 0 = .ok (.aload_n 0, 1) := dk_42 (dk_at dksX5_lay_0 0 rfl rfl)
theorem dX5_lay_1 : decode cX5_lay 1 = .ok (.getfield 22, 3) := dk_180 0 22 (dk_at dksX5_lay_0 1 rfl rfl)
theorem dX5_lay_4 : decode cX5_lay 4 = .ok (.aload_n 0, 1) := dk_42 (dk_at dksX5_lay_0 4 rfl rfl)
theorem dX5_lay_5 : decode cX5_lay 5 = .ok (.getfield 153, 3) := dk_180 0 153 (dk_at dksX5_lay_0 5 rfl rfl)
theorem dX5_lay_8 : decode cX5_lay 8 = .ok (.iload_n 1, 1) := dk_27 (dk_at dksX5_lay_0 8 rfl rfl)
theorem dX5_lay_9 : decode cX5_lay 9 = .ok (.iastore, 1) := dk_79 (dk_at dksX5_lay_0 9 rfl rfl)
theorem dX5_lay_10 : decode cX5_lay 10 = .ok (.aload_n 0, 1) := dk_42 (dk_at dksX5_lay_0 10 rfl rfl)
theorem dX5_lay_11 : decode cX5_lay 11 = .ok (.getfield 25, 3) := dk_180 0 25 (dk_at dksX5_lay_0 11 rfl rfl)
theorem dX5_lay_14 : decode cX5_lay 14 = .ok (.aload_n 0, 1) := dk_42 (dk_at dksX5_lay_0 14 rfl rfl)
theorem dX5_lay_15 : decode cX5_lay 15 = .ok (.getfield 153, 3) := dk_180 0 153 (dk_at dksX5_lay_0 15 rfl rfl)
theorem dX5_lay_18 : decode cX5_lay 18 = .ok (.iload_n 2, 1) := dk_28 (dk_at dksX5_lay_0 18 rfl rfl)
theorem dX5_lay_19 : decode cX5_lay 19 = .ok (.iastore, 1) := dk_79 (dk_at dksX5_lay_0 19 rfl rfl)
theorem dX5_lay_20 : decode cX5_lay 20 = .ok (.aload_n 0, 1) := dk_42 (dk_at dksX5_lay_0 20 rfl rfl)
theorem dX5_lay_21 : decode cX5_lay 21 = .ok (.getfield 28, 3) := dk_180 0 28 (dk_at dksX5_lay_0 21 rfl rfl)
theorem dX5_lay_24 : decode cX5_lay 24 = .ok (.aload_n 0, 1) := dk_42 (dk_at dksX5_lay_1 0 rfl rfl)
theorem dX5_lay_25 : decode cX5_lay 25 = .ok (.getfield 153, 3) := dk_180 0 153 (dk_at dksX5_lay_1 1 rfl rfl)
theorem dX5_lay_28 : decode cX5_lay 28 = .ok (.iload_n 3, 1) := dk_29 (dk_at dksX5_lay_1 4 rfl rfl)
theorem dX5_lay_29 : decode cX5_lay 29 = .ok (.iastore, 1) := dk_79 (dk_at dksX5_lay_1 5 rfl rfl)
theorem dX5_lay_30 : decode cX5_lay 30 = .ok (.aload_n 0, 1) := dk_42 (dk_at dksX5_lay_1 6 rfl rfl)
theorem dX5_lay_31 : decode cX5_lay 31 = .ok (.getfield 31, 3) := dk_180 0 31 (dk_at dksX5_lay_1 7 rfl rfl)
theorem dX5_lay_34 : decode cX5_lay 34 = .ok (.aload_n 0, 1) := dk_42 (dk_at dksX5_lay_1 10 rfl rfl)
theorem dX5_lay_35 : decode cX5_lay 35 = .ok (.getfield 153, 3) := dk_180 0 153 (dk_at dksX5_lay_1 11 rfl rfl)
theorem dX5_lay_38 : decode cX5_lay 38 = .ok (.iload 4, 2) := dk_21 4 (dk_at dksX5_lay_1 14 rfl rfl)
theorem dX5_lay_40 : decode cX5_lay 40 = .ok (.iastore, 1) := dk_79 (dk_at dksX5_lay_1 16 rfl rfl)
theorem dX5_lay_41 : decode cX5_lay 41 = .ok (.aload_n 0, 1) := dk_42 (dk_at dksX5_lay_1 17 rfl rfl)
theorem dX5_lay_42 : decode cX5_lay 42 = .ok (.getfield 34, 3) := dk_180 0 34 (dk_at dksX5_lay_1 18 rfl rfl)
theorem dX5_lay_45 : decode cX5_lay 45 = .ok (.aload_n 0, 1) := dk_42 (dk_at dksX5_lay_1 21 rfl rfl)
theorem dX5_lay_46 : decode cX5_lay 46 = .ok (.getfield 153, 3) := dk_180 0 153 (dk_at dksX5_lay_2 0 rfl rfl)
theorem dX5_lay_49 : decode cX5_lay 49 = .ok (.iload 5, 2) := dk_21 5 (dk_at dksX5_lay_2 3 rfl rfl)
theorem dX5_lay_51 : decode cX5_lay 51 = .ok (.iastore, 1) := dk_79 (dk_at dksX5_lay_2 5 rfl rfl)
theorem dX5_lay_52 : decode cX5_lay 52 = .ok (.aload_n 0, 1) := dk_42 (dk_at dksX5_lay_2 6 rfl rfl)
theorem dX5_lay_53 : decode cX5_lay 53 = .ok (.dup, 1) := dk_89 (dk_at dksX5_lay_2 7 rfl rfl)
theorem dX5_lay_54 : decode cX5_lay 54 = .ok (.getfield 153, 3) := dk_180 0 153 (dk_at dksX5_lay_2 8 rfl rfl)
theorem dX5_lay_57 : decode cX5_lay 57 = .ok (.iconst 1, 1) := dk_4 (dk_at dksX5_lay_2 11 rfl rfl)
theorem dX5_lay_58 : decode cX5_lay 58 = .ok (.iadd, 1) := dk_96 (dk_at dksX5_lay_2 12 rfl rfl)
theorem dX5_lay_59 : decode cX5_lay 59 = .ok (.putfield 153, 3) := dk_181 0 153 (dk_at dksX5_lay_2 13 rfl rfl)
theorem dX5_lay_62 : decode cX5_lay 62 = .ok (.return_, 1) := dk_177 (dk_at dksX5_lay_2 16 rfl rfl)
abbrev cX5_finds : ByteArray := prog_19_method_33_code
def yX5_finds : MethodName := ⟨RX5, "finds", "()V"⟩
def dkwX5_finds_6 : List UInt8 := [180, 0, 43, 27, 92, 46, 42, 180, 0, 40, 27, 46, 126, 79, 132, 1, 1, 167, 255, 230, 177]
abbrev dktX5_finds_6 : List UInt8 := dkwX5_finds_6 ++ []
def dkwX5_finds_5 : List UInt8 := [79, 132, 2, 1, 167, 255, 195, 132, 1, 1, 167, 255, 179, 3, 60, 27, 42, 180, 0, 156, 162, 0, 24, 42]
abbrev dktX5_finds_5 : List UInt8 := dkwX5_finds_5 ++ dktX5_finds_6
def dkwX5_finds_4 : List UInt8 := [42, 180, 0, 43, 42, 180, 0, 22, 28, 46, 92, 46, 42, 180, 0, 43, 42, 180, 0, 25, 28, 46, 46, 128]
abbrev dktX5_finds_4 : List UInt8 := dkwX5_finds_4 ++ dktX5_finds_5
def dkwX5_finds_3 : List UInt8 := [180, 0, 40, 42, 180, 0, 25, 28, 46, 92, 46, 42, 180, 0, 40, 42, 180, 0, 22, 28, 46, 46, 128, 79]
abbrev dktX5_finds_3 : List UInt8 := dkwX5_finds_3 ++ dktX5_finds_4
def dkwX5_finds_2 : List UInt8 := [167, 255, 210, 3, 60, 27, 42, 180, 0, 156, 162, 0, 75, 3, 61, 28, 42, 180, 0, 153, 162, 0, 59, 42]
abbrev dktX5_finds_2 : List UInt8 := dkwX5_finds_2 ++ dktX5_finds_3
def dkwX5_finds_1 : List UInt8 := [79, 42, 180, 0, 43, 27, 42, 180, 0, 37, 27, 46, 156, 0, 7, 3, 167, 0, 4, 4, 79, 132, 1, 1]
abbrev dktX5_finds_1 : List UInt8 := dkwX5_finds_1 ++ dktX5_finds_2
def dkwX5_finds_0 : List UInt8 := [3, 60, 27, 42, 180, 0, 156, 162, 0, 44, 42, 180, 0, 40, 27, 27, 154, 0, 7, 4, 167, 0, 4, 3]
abbrev dktX5_finds_0 : List UInt8 := dkwX5_finds_0 ++ dktX5_finds_1
theorem dksX5_finds_0 : cX5_finds.data.toList.drop 0 = dktX5_finds_0 := by decide +kernel
theorem dksX5_finds_1 : cX5_finds.data.toList.drop 24 = dktX5_finds_1 := dk_seg dksX5_finds_0 24 rfl rfl
theorem dksX5_finds_2 : cX5_finds.data.toList.drop 48 = dktX5_finds_2 := dk_seg dksX5_finds_1 24 rfl rfl
theorem dksX5_finds_3 : cX5_finds.data.toList.drop 72 = dktX5_finds_3 := dk_seg dksX5_finds_2 24 rfl rfl
theorem dksX5_finds_4 : cX5_finds.data.toList.drop 96 = dktX5_finds_4 := dk_seg dksX5_finds_3 24 rfl rfl
theorem dksX5_finds_5 : cX5_finds.data.toList.drop 120 = dktX5_finds_5 := dk_seg dksX5_finds_4 24 rfl rfl
theorem dksX5_finds_6 : cX5_finds.data.toList.drop 144 = dktX5_finds_6 := dk_seg dksX5_finds_5 24 rfl rfl
theorem dX5_finds_0 : decode cX5_finds 0 = .ok (.iconst 0, 1) := dk_3 (dk_at dksX5_finds_0 0 rfl rfl)
theorem dX5_finds_1 : decode cX5_finds 1 = .ok (.istore_n 1, 1) := dk_60 (dk_at dksX5_finds_0 1 rfl rfl)
theorem dX5_finds_2 : decode cX5_finds 2 = .ok (.iload_n 1, 1) := dk_27 (dk_at dksX5_finds_0 2 rfl rfl)
theorem dX5_finds_3 : decode cX5_finds 3 = .ok (.aload_n 0, 1) := dk_42 (dk_at dksX5_finds_0 3 rfl rfl)
theorem dX5_finds_4 : decode cX5_finds 4 = .ok (.getfield 156, 3) := dk_180 0 156 (dk_at dksX5_finds_0 4 rfl rfl)
theorem dX5_finds_7 : decode cX5_finds 7 = .ok (.if_icmp .ge 44, 3) := dk_162 0 44 (dk_at dksX5_finds_0 7 rfl rfl)
theorem dX5_finds_10 : decode cX5_finds 10 = .ok (.aload_n 0, 1) := dk_42 (dk_at dksX5_finds_0 10 rfl rfl)
theorem dX5_finds_11 : decode cX5_finds 11 = .ok (.getfield 40, 3) := dk_180 0 40 (dk_at dksX5_finds_0 11 rfl rfl)
theorem dX5_finds_14 : decode cX5_finds 14 = .ok (.iload_n 1, 1) := dk_27 (dk_at dksX5_finds_0 14 rfl rfl)
theorem dX5_finds_15 : decode cX5_finds 15 = .ok (.iload_n 1, 1) := dk_27 (dk_at dksX5_finds_0 15 rfl rfl)
theorem dX5_finds_16 : decode cX5_finds 16 = .ok (.ifCond .ne 7, 3) := dk_154 0 7 (dk_at dksX5_finds_0 16 rfl rfl)
theorem dX5_finds_19 : decode cX5_finds 19 = .ok (.iconst 1, 1) := dk_4 (dk_at dksX5_finds_0 19 rfl rfl)
theorem dX5_finds_20 : decode cX5_finds 20 = .ok (.goto 4, 3) := dk_167 0 4 (dk_at dksX5_finds_0 20 rfl rfl)
theorem dX5_finds_23 : decode cX5_finds 23 = .ok (.iconst 0, 1) := dk_3 (dk_at dksX5_finds_0 23 rfl rfl)
theorem dX5_finds_24 : decode cX5_finds 24 = .ok (.iastore, 1) := dk_79 (dk_at dksX5_finds_1 0 rfl rfl)
theorem dX5_finds_25 : decode cX5_finds 25 = .ok (.aload_n 0, 1) := dk_42 (dk_at dksX5_finds_1 1 rfl rfl)
theorem dX5_finds_26 : decode cX5_finds 26 = .ok (.getfield 43, 3) := dk_180 0 43 (dk_at dksX5_finds_1 2 rfl rfl)
theorem dX5_finds_29 : decode cX5_finds 29 = .ok (.iload_n 1, 1) := dk_27 (dk_at dksX5_finds_1 5 rfl rfl)
theorem dX5_finds_30 : decode cX5_finds 30 = .ok (.aload_n 0, 1) := dk_42 (dk_at dksX5_finds_1 6 rfl rfl)
theorem dX5_finds_31 : decode cX5_finds 31 = .ok (.getfield 37, 3) := dk_180 0 37 (dk_at dksX5_finds_1 7 rfl rfl)
theorem dX5_finds_34 : decode cX5_finds 34 = .ok (.iload_n 1, 1) := dk_27 (dk_at dksX5_finds_1 10 rfl rfl)
theorem dX5_finds_35 : decode cX5_finds 35 = .ok (.iaload, 1) := dk_46 (dk_at dksX5_finds_1 11 rfl rfl)
theorem dX5_finds_36 : decode cX5_finds 36 = .ok (.ifCond .ge 7, 3) := dk_156 0 7 (dk_at dksX5_finds_1 12 rfl rfl)
theorem dX5_finds_39 : decode cX5_finds 39 = .ok (.iconst 0, 1) := dk_3 (dk_at dksX5_finds_1 15 rfl rfl)
theorem dX5_finds_40 : decode cX5_finds 40 = .ok (.goto 4, 3) := dk_167 0 4 (dk_at dksX5_finds_1 16 rfl rfl)
theorem dX5_finds_43 : decode cX5_finds 43 = .ok (.iconst 1, 1) := dk_4 (dk_at dksX5_finds_1 19 rfl rfl)
theorem dX5_finds_44 : decode cX5_finds 44 = .ok (.iastore, 1) := dk_79 (dk_at dksX5_finds_1 20 rfl rfl)
theorem dX5_finds_45 : decode cX5_finds 45 = .ok (.iinc 1 1, 3) := dk_132 1 1 (dk_at dksX5_finds_1 21 rfl rfl)
theorem dX5_finds_48 : decode cX5_finds 48 = .ok (.goto (-46), 3) := dk_167 255 210 (dk_at dksX5_finds_2 0 rfl rfl)
theorem dX5_finds_51 : decode cX5_finds 51 = .ok (.iconst 0, 1) := dk_3 (dk_at dksX5_finds_2 3 rfl rfl)
theorem dX5_finds_52 : decode cX5_finds 52 = .ok (.istore_n 1, 1) := dk_60 (dk_at dksX5_finds_2 4 rfl rfl)
theorem dX5_finds_53 : decode cX5_finds 53 = .ok (.iload_n 1, 1) := dk_27 (dk_at dksX5_finds_2 5 rfl rfl)
theorem dX5_finds_54 : decode cX5_finds 54 = .ok (.aload_n 0, 1) := dk_42 (dk_at dksX5_finds_2 6 rfl rfl)
theorem dX5_finds_55 : decode cX5_finds 55 = .ok (.getfield 156, 3) := dk_180 0 156 (dk_at dksX5_finds_2 7 rfl rfl)
theorem dX5_finds_58 : decode cX5_finds 58 = .ok (.if_icmp .ge 75, 3) := dk_162 0 75 (dk_at dksX5_finds_2 10 rfl rfl)
theorem dX5_finds_61 : decode cX5_finds 61 = .ok (.iconst 0, 1) := dk_3 (dk_at dksX5_finds_2 13 rfl rfl)
theorem dX5_finds_62 : decode cX5_finds 62 = .ok (.istore_n 2, 1) := dk_61 (dk_at dksX5_finds_2 14 rfl rfl)
theorem dX5_finds_63 : decode cX5_finds 63 = .ok (.iload_n 2, 1) := dk_28 (dk_at dksX5_finds_2 15 rfl rfl)
theorem dX5_finds_64 : decode cX5_finds 64 = .ok (.aload_n 0, 1) := dk_42 (dk_at dksX5_finds_2 16 rfl rfl)
theorem dX5_finds_65 : decode cX5_finds 65 = .ok (.getfield 153, 3) := dk_180 0 153 (dk_at dksX5_finds_2 17 rfl rfl)
theorem dX5_finds_68 : decode cX5_finds 68 = .ok (.if_icmp .ge 59, 3) := dk_162 0 59 (dk_at dksX5_finds_2 20 rfl rfl)
theorem dX5_finds_71 : decode cX5_finds 71 = .ok (.aload_n 0, 1) := dk_42 (dk_at dksX5_finds_2 23 rfl rfl)
theorem dX5_finds_72 : decode cX5_finds 72 = .ok (.getfield 40, 3) := dk_180 0 40 (dk_at dksX5_finds_3 0 rfl rfl)
theorem dX5_finds_75 : decode cX5_finds 75 = .ok (.aload_n 0, 1) := dk_42 (dk_at dksX5_finds_3 3 rfl rfl)
theorem dX5_finds_76 : decode cX5_finds 76 = .ok (.getfield 25, 3) := dk_180 0 25 (dk_at dksX5_finds_3 4 rfl rfl)
theorem dX5_finds_79 : decode cX5_finds 79 = .ok (.iload_n 2, 1) := dk_28 (dk_at dksX5_finds_3 7 rfl rfl)
theorem dX5_finds_80 : decode cX5_finds 80 = .ok (.iaload, 1) := dk_46 (dk_at dksX5_finds_3 8 rfl rfl)
theorem dX5_finds_81 : decode cX5_finds 81 = .ok (.dup2, 1) := dk_92 (dk_at dksX5_finds_3 9 rfl rfl)
theorem dX5_finds_82 : decode cX5_finds 82 = .ok (.iaload, 1) := dk_46 (dk_at dksX5_finds_3 10 rfl rfl)
theorem dX5_finds_83 : decode cX5_finds 83 = .ok (.aload_n 0, 1) := dk_42 (dk_at dksX5_finds_3 11 rfl rfl)
theorem dX5_finds_84 : decode cX5_finds 84 = .ok (.getfield 40, 3) := dk_180 0 40 (dk_at dksX5_finds_3 12 rfl rfl)
theorem dX5_finds_87 : decode cX5_finds 87 = .ok (.aload_n 0, 1) := dk_42 (dk_at dksX5_finds_3 15 rfl rfl)
theorem dX5_finds_88 : decode cX5_finds 88 = .ok (.getfield 22, 3) := dk_180 0 22 (dk_at dksX5_finds_3 16 rfl rfl)
theorem dX5_finds_91 : decode cX5_finds 91 = .ok (.iload_n 2, 1) := dk_28 (dk_at dksX5_finds_3 19 rfl rfl)
theorem dX5_finds_92 : decode cX5_finds 92 = .ok (.iaload, 1) := dk_46 (dk_at dksX5_finds_3 20 rfl rfl)
theorem dX5_finds_93 : decode cX5_finds 93 = .ok (.iaload, 1) := dk_46 (dk_at dksX5_finds_3 21 rfl rfl)
theorem dX5_finds_94 : decode cX5_finds 94 = .ok (.ior, 1) := dk_128 (dk_at dksX5_finds_3 22 rfl rfl)
theorem dX5_finds_95 : decode cX5_finds 95 = .ok (.iastore, 1) := dk_79 (dk_at dksX5_finds_3 23 rfl rfl)
theorem dX5_finds_96 : decode cX5_finds 96 = .ok (.aload_n 0, 1) := dk_42 (dk_at dksX5_finds_4 0 rfl rfl)
theorem dX5_finds_97 : decode cX5_finds 97 = .ok (.getfield 43, 3) := dk_180 0 43 (dk_at dksX5_finds_4 1 rfl rfl)
theorem dX5_finds_100 : decode cX5_finds 100 = .ok (.aload_n 0, 1) := dk_42 (dk_at dksX5_finds_4 4 rfl rfl)
theorem dX5_finds_101 : decode cX5_finds 101 = .ok (.getfield 22, 3) := dk_180 0 22 (dk_at dksX5_finds_4 5 rfl rfl)
theorem dX5_finds_104 : decode cX5_finds 104 = .ok (.iload_n 2, 1) := dk_28 (dk_at dksX5_finds_4 8 rfl rfl)
theorem dX5_finds_105 : decode cX5_finds 105 = .ok (.iaload, 1) := dk_46 (dk_at dksX5_finds_4 9 rfl rfl)
theorem dX5_finds_106 : decode cX5_finds 106 = .ok (.dup2, 1) := dk_92 (dk_at dksX5_finds_4 10 rfl rfl)
theorem dX5_finds_107 : decode cX5_finds 107 = .ok (.iaload, 1) := dk_46 (dk_at dksX5_finds_4 11 rfl rfl)
theorem dX5_finds_108 : decode cX5_finds 108 = .ok (.aload_n 0, 1) := dk_42 (dk_at dksX5_finds_4 12 rfl rfl)
theorem dX5_finds_109 : decode cX5_finds 109 = .ok (.getfield 43, 3) := dk_180 0 43 (dk_at dksX5_finds_4 13 rfl rfl)
theorem dX5_finds_112 : decode cX5_finds 112 = .ok (.aload_n 0, 1) := dk_42 (dk_at dksX5_finds_4 16 rfl rfl)
theorem dX5_finds_113 : decode cX5_finds 113 = .ok (.getfield 25, 3) := dk_180 0 25 (dk_at dksX5_finds_4 17 rfl rfl)
theorem dX5_finds_116 : decode cX5_finds 116 = .ok (.iload_n 2, 1) := dk_28 (dk_at dksX5_finds_4 20 rfl rfl)
theorem dX5_finds_117 : decode cX5_finds 117 = .ok (.iaload, 1) := dk_46 (dk_at dksX5_finds_4 21 rfl rfl)
theorem dX5_finds_118 : decode cX5_finds 118 = .ok (.iaload, 1) := dk_46 (dk_at dksX5_finds_4 22 rfl rfl)
theorem dX5_finds_119 : decode cX5_finds 119 = .ok (.ior, 1) := dk_128 (dk_at dksX5_finds_4 23 rfl rfl)
theorem dX5_finds_120 : decode cX5_finds 120 = .ok (.iastore, 1) := dk_79 (dk_at dksX5_finds_5 0 rfl rfl)
theorem dX5_finds_121 : decode cX5_finds 121 = .ok (.iinc 2 1, 3) := dk_132 2 1 (dk_at dksX5_finds_5 1 rfl rfl)
theorem dX5_finds_124 : decode cX5_finds 124 = .ok (.goto (-61), 3) := dk_167 255 195 (dk_at dksX5_finds_5 4 rfl rfl)
theorem dX5_finds_127 : decode cX5_finds 127 = .ok (.iinc 1 1, 3) := dk_132 1 1 (dk_at dksX5_finds_5 7 rfl rfl)
theorem dX5_finds_130 : decode cX5_finds 130 = .ok (.goto (-77), 3) := dk_167 255 179 (dk_at dksX5_finds_5 10 rfl rfl)
theorem dX5_finds_133 : decode cX5_finds 133 = .ok (.iconst 0, 1) := dk_3 (dk_at dksX5_finds_5 13 rfl rfl)
theorem dX5_finds_134 : decode cX5_finds 134 = .ok (.istore_n 1, 1) := dk_60 (dk_at dksX5_finds_5 14 rfl rfl)
theorem dX5_finds_135 : decode cX5_finds 135 = .ok (.iload_n 1, 1) := dk_27 (dk_at dksX5_finds_5 15 rfl rfl)
theorem dX5_finds_136 : decode cX5_finds 136 = .ok (.aload_n 0, 1) := dk_42 (dk_at dksX5_finds_5 16 rfl rfl)
theorem dX5_finds_137 : decode cX5_finds 137 = .ok (.getfield 156, 3) := dk_180 0 156 (dk_at dksX5_finds_5 17 rfl rfl)
theorem dX5_finds_140 : decode cX5_finds 140 = .ok (.if_icmp .ge 24, 3) := dk_162 0 24 (dk_at dksX5_finds_5 20 rfl rfl)
theorem dX5_finds_143 : decode cX5_finds 143 = .ok (.aload_n 0, 1) := dk_42 (dk_at dksX5_finds_5 23 rfl rfl)
theorem dX5_finds_144 : decode cX5_finds 144 = .ok (.getfield 43, 3) := dk_180 0 43 (dk_at dksX5_finds_6 0 rfl rfl)
theorem dX5_finds_147 : decode cX5_finds 147 = .ok (.iload_n 1, 1) := dk_27 (dk_at dksX5_finds_6 3 rfl rfl)
theorem dX5_finds_148 : decode cX5_finds 148 = .ok (.dup2, 1) := dk_92 (dk_at dksX5_finds_6 4 rfl rfl)
theorem dX5_finds_149 : decode cX5_finds 149 = .ok (.iaload, 1) := dk_46 (dk_at dksX5_finds_6 5 rfl rfl)
theorem dX5_finds_150 : decode cX5_finds 150 = .ok (.aload_n 0, 1) := dk_42 (dk_at dksX5_finds_6 6 rfl rfl)
theorem dX5_finds_151 : decode cX5_finds 151 = .ok (.getfield 40, 3) := dk_180 0 40 (dk_at dksX5_finds_6 7 rfl rfl)
theorem dX5_finds_154 : decode cX5_finds 154 = .ok (.iload_n 1, 1) := dk_27 (dk_at dksX5_finds_6 10 rfl rfl)
theorem dX5_finds_155 : decode cX5_finds 155 = .ok (.iaload, 1) := dk_46 (dk_at dksX5_finds_6 11 rfl rfl)
theorem dX5_finds_156 : decode cX5_finds 156 = .ok (.iand, 1) := dk_126 (dk_at dksX5_finds_6 12 rfl rfl)
theorem dX5_finds_157 : decode cX5_finds 157 = .ok (.iastore, 1) := dk_79 (dk_at dksX5_finds_6 13 rfl rfl)
theorem dX5_finds_158 : decode cX5_finds 158 = .ok (.iinc 1 1, 3) := dk_132 1 1 (dk_at dksX5_finds_6 14 rfl rfl)
theorem dX5_finds_161 : decode cX5_finds 161 = .ok (.goto (-26), 3) := dk_167 255 230 (dk_at dksX5_finds_6 17 rfl rfl)
theorem dX5_finds_164 : decode cX5_finds 164 = .ok (.return_, 1) := dk_177 (dk_at dksX5_finds_6 20 rfl rfl)
abbrev cX5_leads : ByteArray := prog_19_method_35_code
def yX5_leads : MethodName := ⟨RX5, "leads", "(IZ)I"⟩
def dkwX5_leads_2 : List UInt8 := [132, 4, 1, 167, 255, 211, 29, 172]
abbrev dktX5_leads_2 : List UInt8 := dkwX5_leads_2 ++ []
def dkwX5_leads_1 : List UInt8 := [21, 4, 46, 167, 0, 10, 42, 180, 0, 25, 21, 4, 46, 27, 160, 0, 7, 4, 167, 0, 4, 3, 96, 62]
abbrev dktX5_leads_1 : List UInt8 := dkwX5_leads_1 ++ dktX5_leads_2
def dkwX5_leads_0 : List UInt8 := [3, 62, 3, 54, 4, 21, 4, 42, 180, 0, 153, 162, 0, 42, 29, 28, 153, 0, 13, 42, 180, 0, 22]
abbrev dktX5_leads_0 : List UInt8 := dkwX5_leads_0 ++ dktX5_leads_1
theorem dksX5_leads_0 : cX5_leads.data.toList.drop 0 = dktX5_leads_0 := by decide +kernel
theorem dksX5_leads_1 : cX5_leads.data.toList.drop 23 = dktX5_leads_1 := dk_seg dksX5_leads_0 23 rfl rfl
theorem dksX5_leads_2 : cX5_leads.data.toList.drop 47 = dktX5_leads_2 := dk_seg dksX5_leads_1 24 rfl rfl
theorem dX5_leads_0 : decode cX5_leads 0 = .ok (.iconst 0, 1) := dk_3 (dk_at dksX5_leads_0 0 rfl rfl)
theorem dX5_leads_1 : decode cX5_leads 1 = .ok (.istore_n 3, 1) := dk_62 (dk_at dksX5_leads_0 1 rfl rfl)
theorem dX5_leads_2 : decode cX5_leads 2 = .ok (.iconst 0, 1) := dk_3 (dk_at dksX5_leads_0 2 rfl rfl)
theorem dX5_leads_3 : decode cX5_leads 3 = .ok (.istore 4, 2) := dk_54 4 (dk_at dksX5_leads_0 3 rfl rfl)
theorem dX5_leads_5 : decode cX5_leads 5 = .ok (.iload 4, 2) := dk_21 4 (dk_at dksX5_leads_0 5 rfl rfl)
theorem dX5_leads_7 : decode cX5_leads 7 = .ok (.aload_n 0, 1) := dk_42 (dk_at dksX5_leads_0 7 rfl rfl)
theorem dX5_leads_8 : decode cX5_leads 8 = .ok (.getfield 153, 3) := dk_180 0 153 (dk_at dksX5_leads_0 8 rfl rfl)
theorem dX5_leads_11 : decode cX5_leads 11 = .ok (.if_icmp .ge 42, 3) := dk_162 0 42 (dk_at dksX5_leads_0 11 rfl rfl)
theorem dX5_leads_14 : decode cX5_leads 14 = .ok (.iload_n 3, 1) := dk_29 (dk_at dksX5_leads_0 14 rfl rfl)
theorem dX5_leads_15 : decode cX5_leads 15 = .ok (.iload_n 2, 1) := dk_28 (dk_at dksX5_leads_0 15 rfl rfl)
theorem dX5_leads_16 : decode cX5_leads 16 = .ok (.ifCond .eq 13, 3) := dk_153 0 13 (dk_at dksX5_leads_0 16 rfl rfl)
theorem dX5_leads_19 : decode cX5_leads 19 = .ok (.aload_n 0, 1) := dk_42 (dk_at dksX5_leads_0 19 rfl rfl)
theorem dX5_leads_20 : decode cX5_leads 20 = .ok (.getfield 22, 3) := dk_180 0 22 (dk_at dksX5_leads_0 20 rfl rfl)
theorem dX5_leads_23 : decode cX5_leads 23 = .ok (.iload 4, 2) := dk_21 4 (dk_at dksX5_leads_1 0 rfl rfl)
theorem dX5_leads_25 : decode cX5_leads 25 = .ok (.iaload, 1) := dk_46 (dk_at dksX5_leads_1 2 rfl rfl)
theorem dX5_leads_26 : decode cX5_leads 26 = .ok (.goto 10, 3) := dk_167 0 10 (dk_at dksX5_leads_1 3 rfl rfl)
theorem dX5_leads_29 : decode cX5_leads 29 = .ok (.aload_n 0, 1) := dk_42 (dk_at dksX5_leads_1 6 rfl rfl)
theorem dX5_leads_30 : decode cX5_leads 30 = .ok (.getfield 25, 3) := dk_180 0 25 (dk_at dksX5_leads_1 7 rfl rfl)
theorem dX5_leads_33 : decode cX5_leads 33 = .ok (.iload 4, 2) := dk_21 4 (dk_at dksX5_leads_1 10 rfl rfl)
theorem dX5_leads_35 : decode cX5_leads 35 = .ok (.iaload, 1) := dk_46 (dk_at dksX5_leads_1 12 rfl rfl)
theorem dX5_leads_36 : decode cX5_leads 36 = .ok (.iload_n 1, 1) := dk_27 (dk_at dksX5_leads_1 13 rfl rfl)
theorem dX5_leads_37 : decode cX5_leads 37 = .ok (.if_icmp .ne 7, 3) := dk_160 0 7 (dk_at dksX5_leads_1 14 rfl rfl)
theorem dX5_leads_40 : decode cX5_leads 40 = .ok (.iconst 1, 1) := dk_4 (dk_at dksX5_leads_1 17 rfl rfl)
theorem dX5_leads_41 : decode cX5_leads 41 = .ok (.goto 4, 3) := dk_167 0 4 (dk_at dksX5_leads_1 18 rfl rfl)
theorem dX5_leads_44 : decode cX5_leads 44 = .ok (.iconst 0, 1) := dk_3 (dk_at dksX5_leads_1 21 rfl rfl)
theorem dX5_leads_45 : decode cX5_leads 45 = .ok (.iadd, 1) := dk_96 (dk_at dksX5_leads_1 22 rfl rfl)
theorem dX5_leads_46 : decode cX5_leads 46 = .ok (.istore_n 3, 1) := dk_62 (dk_at dksX5_leads_1 23 rfl rfl)
theorem dX5_leads_47 : decode cX5_leads 47 = .ok (.iinc 4 1, 3) := dk_132 4 1 (dk_at dksX5_leads_2 0 rfl rfl)
theorem dX5_leads_50 : decode cX5_leads 50 = .ok (.goto (-45), 3) := dk_167 255 211 (dk_at dksX5_leads_2 3 rfl rfl)
theorem dX5_leads_53 : decode cX5_leads 53 = .ok (.iload_n 3, 1) := dk_29 (dk_at dksX5_leads_2 6 rfl rfl)
theorem dX5_leads_54 : decode cX5_leads 54 = .ok (.ireturn, 1) := dk_172 (dk_at dksX5_leads_2 7 rfl rfl)
abbrev cX5_byBreaths : ByteArray := prog_19_method_34_code
def yX5_byBreaths : MethodName := ⟨RX5, "byBreaths", "(IZ)I"⟩
def dkwX5_byBreaths_4 : List UInt8 := [27, 120, 128, 167, 0, 4, 29, 172]
abbrev dktX5_byBreaths_4 : List UInt8 := dkwX5_byBreaths_4 ++ []
def dkwX5_byBreaths_3 : List UInt8 := [21, 5, 46, 120, 128, 62, 132, 5, 1, 167, 255, 195, 132, 4, 1, 167, 255, 177, 28, 153, 0, 11, 29, 4]
abbrev dktX5_byBreaths_3 : List UInt8 := dkwX5_byBreaths_3 ++ dktX5_byBreaths_4
def dkwX5_byBreaths_2 : List UInt8 := [159, 0, 18, 29, 42, 180, 0, 22, 21, 5, 46, 122, 4, 126, 4, 160, 0, 15, 29, 4, 42, 180, 0, 25]
abbrev dktX5_byBreaths_2 : List UInt8 := dkwX5_byBreaths_2 ++ dktX5_byBreaths_3
def dkwX5_byBreaths_1 : List UInt8 := [162, 0, 58, 42, 180, 0, 28, 21, 5, 46, 7, 160, 0, 41, 42, 180, 0, 22, 21, 5, 46, 27]
abbrev dktX5_byBreaths_1 : List UInt8 := dkwX5_byBreaths_1 ++ dktX5_byBreaths_2
def dkwX5_byBreaths_0 : List UInt8 := [3, 62, 3, 54, 4, 21, 4, 42, 180, 0, 156, 163, 0, 76, 3, 54, 5, 21, 5, 42, 180, 0, 153]
abbrev dktX5_byBreaths_0 : List UInt8 := dkwX5_byBreaths_0 ++ dktX5_byBreaths_1
theorem dksX5_byBreaths_0 : cX5_byBreaths.data.toList.drop 0 = dktX5_byBreaths_0 := by decide +kernel
theorem dksX5_byBreaths_1 : cX5_byBreaths.data.toList.drop 23 = dktX5_byBreaths_1 := dk_seg dksX5_byBreaths_0 23 rfl rfl
theorem dksX5_byBreaths_2 : cX5_byBreaths.data.toList.drop 45 = dktX5_byBreaths_2 := dk_seg dksX5_byBreaths_1 22 rfl rfl
theorem dksX5_byBreaths_3 : cX5_byBreaths.data.toList.drop 69 = dktX5_byBreaths_3 := dk_seg dksX5_byBreaths_2 24 rfl rfl
theorem dksX5_byBreaths_4 : cX5_byBreaths.data.toList.drop 93 = dktX5_byBreaths_4 := dk_seg dksX5_byBreaths_3 24 rfl rfl
theorem dX5_byBreaths_0 : decode cX5_byBreaths 0 = .ok (.iconst 0, 1) := dk_3 (dk_at dksX5_byBreaths_0 0 rfl rfl)
theorem dX5_byBreaths_1 : decode cX5_byBreaths 1 = .ok (.istore_n 3, 1) := dk_62 (dk_at dksX5_byBreaths_0 1 rfl rfl)
theorem dX5_byBreaths_2 : decode cX5_byBreaths 2 = .ok (.iconst 0, 1) := dk_3 (dk_at dksX5_byBreaths_0 2 rfl rfl)
theorem dX5_byBreaths_3 : decode cX5_byBreaths 3 = .ok (.istore 4, 2) := dk_54 4 (dk_at dksX5_byBreaths_0 3 rfl rfl)
theorem dX5_byBreaths_5 : decode cX5_byBreaths 5 = .ok (.iload 4, 2) := dk_21 4 (dk_at dksX5_byBreaths_0 5 rfl rfl)
theorem dX5_byBreaths_7 : decode cX5_byBreaths 7 = .ok (.aload_n 0, 1) := dk_42 (dk_at dksX5_byBreaths_0 7 rfl rfl)
theorem dX5_byBreaths_8 : decode cX5_byBreaths 8 = .ok (.getfield 156, 3) := dk_180 0 156 (dk_at dksX5_byBreaths_0 8 rfl rfl)
theorem dX5_byBreaths_11 : decode cX5_byBreaths 11 = .ok (.if_icmp .gt 76, 3) := dk_163 0 76 (dk_at dksX5_byBreaths_0 11 rfl rfl)
theorem dX5_byBreaths_14 : decode cX5_byBreaths 14 = .ok (.iconst 0, 1) := dk_3 (dk_at dksX5_byBreaths_0 14 rfl rfl)
theorem dX5_byBreaths_15 : decode cX5_byBreaths 15 = .ok (.istore 5, 2) := dk_54 5 (dk_at dksX5_byBreaths_0 15 rfl rfl)
theorem dX5_byBreaths_17 : decode cX5_byBreaths 17 = .ok (.iload 5, 2) := dk_21 5 (dk_at dksX5_byBreaths_0 17 rfl rfl)
theorem dX5_byBreaths_19 : decode cX5_byBreaths 19 = .ok (.aload_n 0, 1) := dk_42 (dk_at dksX5_byBreaths_0 19 rfl rfl)
theorem dX5_byBreaths_20 : decode cX5_byBreaths 20 = .ok (.getfield 153, 3) := dk_180 0 153 (dk_at dksX5_byBreaths_0 20 rfl rfl)
theorem dX5_byBreaths_23 : decode cX5_byBreaths 23 = .ok (.if_icmp .ge 58, 3) := dk_162 0 58 (dk_at dksX5_byBreaths_1 0 rfl rfl)
theorem dX5_byBreaths_26 : decode cX5_byBreaths 26 = .ok (.aload_n 0, 1) := dk_42 (dk_at dksX5_byBreaths_1 3 rfl rfl)
theorem dX5_byBreaths_27 : decode cX5_byBreaths 27 = .ok (.getfield 28, 3) := dk_180 0 28 (dk_at dksX5_byBreaths_1 4 rfl rfl)
theorem dX5_byBreaths_30 : decode cX5_byBreaths 30 = .ok (.iload 5, 2) := dk_21 5 (dk_at dksX5_byBreaths_1 7 rfl rfl)
theorem dX5_byBreaths_32 : decode cX5_byBreaths 32 = .ok (.iaload, 1) := dk_46 (dk_at dksX5_byBreaths_1 9 rfl rfl)
theorem dX5_byBreaths_33 : decode cX5_byBreaths 33 = .ok (.iconst 4, 1) := dk_7 (dk_at dksX5_byBreaths_1 10 rfl rfl)
theorem dX5_byBreaths_34 : decode cX5_byBreaths 34 = .ok (.if_icmp .ne 41, 3) := dk_160 0 41 (dk_at dksX5_byBreaths_1 11 rfl rfl)
theorem dX5_byBreaths_37 : decode cX5_byBreaths 37 = .ok (.aload_n 0, 1) := dk_42 (dk_at dksX5_byBreaths_1 14 rfl rfl)
theorem dX5_byBreaths_38 : decode cX5_byBreaths 38 = .ok (.getfield 22, 3) := dk_180 0 22 (dk_at dksX5_byBreaths_1 15 rfl rfl)
theorem dX5_byBreaths_41 : decode cX5_byBreaths 41 = .ok (.iload 5, 2) := dk_21 5 (dk_at dksX5_byBreaths_1 18 rfl rfl)
theorem dX5_byBreaths_43 : decode cX5_byBreaths 43 = .ok (.iaload, 1) := dk_46 (dk_at dksX5_byBreaths_1 20 rfl rfl)
theorem dX5_byBreaths_44 : decode cX5_byBreaths 44 = .ok (.iload_n 1, 1) := dk_27 (dk_at dksX5_byBreaths_1 21 rfl rfl)
theorem dX5_byBreaths_45 : decode cX5_byBreaths 45 = .ok (.if_icmp .eq 18, 3) := dk_159 0 18 (dk_at dksX5_byBreaths_2 0 rfl rfl)
theorem dX5_byBreaths_48 : decode cX5_byBreaths 48 = .ok (.iload_n 3, 1) := dk_29 (dk_at dksX5_byBreaths_2 3 rfl rfl)
theorem dX5_byBreaths_49 : decode cX5_byBreaths 49 = .ok (.aload_n 0, 1) := dk_42 (dk_at dksX5_byBreaths_2 4 rfl rfl)
theorem dX5_byBreaths_50 : decode cX5_byBreaths 50 = .ok (.getfield 22, 3) := dk_180 0 22 (dk_at dksX5_byBreaths_2 5 rfl rfl)
theorem dX5_byBreaths_53 : decode cX5_byBreaths 53 = .ok (.iload 5, 2) := dk_21 5 (dk_at dksX5_byBreaths_2 8 rfl rfl)
theorem dX5_byBreaths_55 : decode cX5_byBreaths 55 = .ok (.iaload, 1) := dk_46 (dk_at dksX5_byBreaths_2 10 rfl rfl)
theorem dX5_byBreaths_56 : decode cX5_byBreaths 56 = .ok (.ishr, 1) := dk_122 (dk_at dksX5_byBreaths_2 11 rfl rfl)
theorem dX5_byBreaths_57 : decode cX5_byBreaths 57 = .ok (.iconst 1, 1) := dk_4 (dk_at dksX5_byBreaths_2 12 rfl rfl)
theorem dX5_byBreaths_58 : decode cX5_byBreaths 58 = .ok (.iand, 1) := dk_126 (dk_at dksX5_byBreaths_2 13 rfl rfl)
theorem dX5_byBreaths_59 : decode cX5_byBreaths 59 = .ok (.iconst 1, 1) := dk_4 (dk_at dksX5_byBreaths_2 14 rfl rfl)
theorem dX5_byBreaths_60 : decode cX5_byBreaths 60 = .ok (.if_icmp .ne 15, 3) := dk_160 0 15 (dk_at dksX5_byBreaths_2 15 rfl rfl)
theorem dX5_byBreaths_63 : decode cX5_byBreaths 63 = .ok (.iload_n 3, 1) := dk_29 (dk_at dksX5_byBreaths_2 18 rfl rfl)
theorem dX5_byBreaths_64 : decode cX5_byBreaths 64 = .ok (.iconst 1, 1) := dk_4 (dk_at dksX5_byBreaths_2 19 rfl rfl)
theorem dX5_byBreaths_65 : decode cX5_byBreaths 65 = .ok (.aload_n 0, 1) := dk_42 (dk_at dksX5_byBreaths_2 20 rfl rfl)
theorem dX5_byBreaths_66 : decode cX5_byBreaths 66 = .ok (.getfield 25, 3) := dk_180 0 25 (dk_at dksX5_byBreaths_2 21 rfl rfl)
theorem dX5_byBreaths_69 : decode cX5_byBreaths 69 = .ok (.iload 5, 2) := dk_21 5 (dk_at dksX5_byBreaths_3 0 rfl rfl)
theorem dX5_byBreaths_71 : decode cX5_byBreaths 71 = .ok (.iaload, 1) := dk_46 (dk_at dksX5_byBreaths_3 2 rfl rfl)
theorem dX5_byBreaths_72 : decode cX5_byBreaths 72 = .ok (.ishl, 1) := dk_120 (dk_at dksX5_byBreaths_3 3 rfl rfl)
theorem dX5_byBreaths_73 : decode cX5_byBreaths 73 = .ok (.ior, 1) := dk_128 (dk_at dksX5_byBreaths_3 4 rfl rfl)
theorem dX5_byBreaths_74 : decode cX5_byBreaths 74 = .ok (.istore_n 3, 1) := dk_62 (dk_at dksX5_byBreaths_3 5 rfl rfl)
theorem dX5_byBreaths_75 : decode cX5_byBreaths 75 = .ok (.iinc 5 1, 3) := dk_132 5 1 (dk_at dksX5_byBreaths_3 6 rfl rfl)
theorem dX5_byBreaths_78 : decode cX5_byBreaths 78 = .ok (.goto (-61), 3) := dk_167 255 195 (dk_at dksX5_byBreaths_3 9 rfl rfl)
theorem dX5_byBreaths_81 : decode cX5_byBreaths 81 = .ok (.iinc 4 1, 3) := dk_132 4 1 (dk_at dksX5_byBreaths_3 12 rfl rfl)
theorem dX5_byBreaths_84 : decode cX5_byBreaths 84 = .ok (.goto (-79), 3) := dk_167 255 177 (dk_at dksX5_byBreaths_3 15 rfl rfl)
theorem dX5_byBreaths_87 : decode cX5_byBreaths 87 = .ok (.iload_n 2, 1) := dk_28 (dk_at dksX5_byBreaths_3 18 rfl rfl)
theorem dX5_byBreaths_88 : decode cX5_byBreaths 88 = .ok (.ifCond .eq 11, 3) := dk_153 0 11 (dk_at dksX5_byBreaths_3 19 rfl rfl)
theorem dX5_byBreaths_91 : decode cX5_byBreaths 91 = .ok (.iload_n 3, 1) := dk_29 (dk_at dksX5_byBreaths_3 22 rfl rfl)
theorem dX5_byBreaths_92 : decode cX5_byBreaths 92 = .ok (.iconst 1, 1) := dk_4 (dk_at dksX5_byBreaths_3 23 rfl rfl)
theorem dX5_byBreaths_93 : decode cX5_byBreaths 93 = .ok (.iload_n 1, 1) := dk_27 (dk_at dksX5_byBreaths_4 0 rfl rfl)
theorem dX5_byBreaths_94 : decode cX5_byBreaths 94 = .ok (.ishl, 1) := dk_120 (dk_at dksX5_byBreaths_4 1 rfl rfl)
theorem dX5_byBreaths_95 : decode cX5_byBreaths 95 = .ok (.ior, 1) := dk_128 (dk_at dksX5_byBreaths_4 2 rfl rfl)
theorem dX5_byBreaths_96 : decode cX5_byBreaths 96 = .ok (.goto 4, 3) := dk_167 0 4 (dk_at dksX5_byBreaths_4 3 rfl rfl)
theorem dX5_byBreaths_99 : decode cX5_byBreaths 99 = .ok (.iload_n 3, 1) := dk_29 (dk_at dksX5_byBreaths_4 6 rfl rfl)
theorem dX5_byBreaths_100 : decode cX5_byBreaths 100 = .ok (.ireturn, 1) := dk_172 (dk_at dksX5_byBreaths_4 7 rfl rfl)
abbrev cX5_least : ByteArray := prog_19_method_45_code
def yX5_least : MethodName := ⟨RX5, "least", "(I)I"⟩
def dkwX5_least_1 : List UInt8 := [182, 0, 170, 42, 182, 0, 217, 153, 0, 10, 42, 180, 0, 200, 167, 0, 5, 16, 241, 172]
abbrev dktX5_least_1 : List UInt8 := dkwX5_least_1 ++ []
def dkwX5_least_0 : List UInt8 := [27, 184, 0, 99, 154, 0, 6, 16, 245, 172, 42, 182, 0, 213, 154, 0, 6, 16, 244, 172, 42, 27]
abbrev dktX5_least_0 : List UInt8 := dkwX5_least_0 ++ dktX5_least_1
theorem dksX5_least_0 : cX5_least.data.toList.drop 0 = dktX5_least_0 := by decide +kernel
theorem dksX5_least_1 : cX5_least.data.toList.drop 22 = dktX5_least_1 := dk_seg dksX5_least_0 22 rfl rfl
theorem dX5_least_0 : decode cX5_least 0 = .ok (.iload_n 1, 1) := dk_27 (dk_at dksX5_least_0 0 rfl rfl)
theorem dX5_least_1 : decode cX5_least 1 = .ok (.invokestatic 99, 3) := dk_184 0 99 (dk_at dksX5_least_0 1 rfl rfl)
theorem dX5_least_4 : decode cX5_least 4 = .ok (.ifCond .ne 6, 3) := dk_154 0 6 (dk_at dksX5_least_0 4 rfl rfl)
theorem dX5_least_7 : decode cX5_least 7 = .ok (.bipush (-11), 2) := dk_16 245 (dk_at dksX5_least_0 7 rfl rfl)
theorem dX5_least_9 : decode cX5_least 9 = .ok (.ireturn, 1) := dk_172 (dk_at dksX5_least_0 9 rfl rfl)
theorem dX5_least_10 : decode cX5_least 10 = .ok (.aload_n 0, 1) := dk_42 (dk_at dksX5_least_0 10 rfl rfl)
theorem dX5_least_11 : decode cX5_least 11 = .ok (.invokevirtual 213, 3) := dk_182 0 213 (dk_at dksX5_least_0 11 rfl rfl)
theorem dX5_least_14 : decode cX5_least 14 = .ok (.ifCond .ne 6, 3) := dk_154 0 6 (dk_at dksX5_least_0 14 rfl rfl)
theorem dX5_least_17 : decode cX5_least 17 = .ok (.bipush (-12), 2) := dk_16 244 (dk_at dksX5_least_0 17 rfl rfl)
theorem dX5_least_19 : decode cX5_least 19 = .ok (.ireturn, 1) := dk_172 (dk_at dksX5_least_0 19 rfl rfl)
theorem dX5_least_20 : decode cX5_least 20 = .ok (.aload_n 0, 1) := dk_42 (dk_at dksX5_least_0 20 rfl rfl)
theorem dX5_least_21 : decode cX5_least 21 = .ok (.iload_n 1, 1) := dk_27 (dk_at dksX5_least_0 21 rfl rfl)
theorem dX5_least_22 : decode cX5_least 22 = .ok (.invokevirtual 170, 3) := dk_182 0 170 (dk_at dksX5_least_1 0 rfl rfl)
theorem dX5_least_25 : decode cX5_least 25 = .ok (.aload_n 0, 1) := dk_42 (dk_at dksX5_least_1 3 rfl rfl)
theorem dX5_least_26 : decode cX5_least 26 = .ok (.invokevirtual 217, 3) := dk_182 0 217 (dk_at dksX5_least_1 4 rfl rfl)
theorem dX5_least_29 : decode cX5_least 29 = .ok (.ifCond .eq 10, 3) := dk_153 0 10 (dk_at dksX5_least_1 7 rfl rfl)
theorem dX5_least_32 : decode cX5_least 32 = .ok (.aload_n 0, 1) := dk_42 (dk_at dksX5_least_1 10 rfl rfl)
theorem dX5_least_33 : decode cX5_least 33 = .ok (.getfield 200, 3) := dk_180 0 200 (dk_at dksX5_least_1 11 rfl rfl)
theorem dX5_least_36 : decode cX5_least 36 = .ok (.goto 5, 3) := dk_167 0 5 (dk_at dksX5_least_1 14 rfl rfl)
theorem dX5_least_39 : decode cX5_least 39 = .ok (.bipush (-15), 2) := dk_16 241 (dk_at dksX5_least_1 17 rfl rfl)
theorem dX5_least_41 : decode cX5_least 41 = .ok (.ireturn, 1) := dk_172 (dk_at dksX5_least_1 19 rfl rfl)
abbrev cX5_isWord : ByteArray := prog_19_method_37_code
def yX5_isWord : MethodName := ⟨RX5, "isWord", "()Z"⟩
def dkwX5_isWord_2 : List UInt8 := [167, 255, 229, 27, 172]
abbrev dktX5_isWord_2 : List UInt8 := dkwX5_isWord_2 ++ []
def dkwX5_isWord_1 : List UInt8 := [162, 0, 25, 27, 42, 180, 0, 46, 28, 46, 16, 97, 16, 100, 184, 0, 95, 126, 60, 132, 2, 1]
abbrev dktX5_isWord_1 : List UInt8 := dkwX5_isWord_1 ++ dktX5_isWord_2
def dkwX5_isWord_0 : List UInt8 := [42, 180, 0, 183, 16, 8, 163, 0, 7, 4, 167, 0, 4, 3, 60, 3, 61, 28, 42, 180, 0, 183]
abbrev dktX5_isWord_0 : List UInt8 := dkwX5_isWord_0 ++ dktX5_isWord_1
theorem dksX5_isWord_0 : cX5_isWord.data.toList.drop 0 = dktX5_isWord_0 := by decide +kernel
theorem dksX5_isWord_1 : cX5_isWord.data.toList.drop 22 = dktX5_isWord_1 := dk_seg dksX5_isWord_0 22 rfl rfl
theorem dksX5_isWord_2 : cX5_isWord.data.toList.drop 44 = dktX5_isWord_2 := dk_seg dksX5_isWord_1 22 rfl rfl
theorem dX5_isWord_0 : decode cX5_isWord 0 = .ok (.aload_n 0, 1) := dk_42 (dk_at dksX5_isWord_0 0 rfl rfl)
theorem dX5_isWord_1 : decode cX5_isWord 1 = .ok (.getfield 183, 3) := dk_180 0 183 (dk_at dksX5_isWord_0 1 rfl rfl)
theorem dX5_isWord_4 : decode cX5_isWord 4 = .ok (.bipush 8, 2) := dk_16 8 (dk_at dksX5_isWord_0 4 rfl rfl)
theorem dX5_isWord_6 : decode cX5_isWord 6 = .ok (.if_icmp .gt 7, 3) := dk_163 0 7 (dk_at dksX5_isWord_0 6 rfl rfl)
theorem dX5_isWord_9 : decode cX5_isWord 9 = .ok (.iconst 1, 1) := dk_4 (dk_at dksX5_isWord_0 9 rfl rfl)
theorem dX5_isWord_10 : decode cX5_isWord 10 = .ok (.goto 4, 3) := dk_167 0 4 (dk_at dksX5_isWord_0 10 rfl rfl)
theorem dX5_isWord_13 : decode cX5_isWord 13 = .ok (.iconst 0, 1) := dk_3 (dk_at dksX5_isWord_0 13 rfl rfl)
theorem dX5_isWord_14 : decode cX5_isWord 14 = .ok (.istore_n 1, 1) := dk_60 (dk_at dksX5_isWord_0 14 rfl rfl)
theorem dX5_isWord_15 : decode cX5_isWord 15 = .ok (.iconst 0, 1) := dk_3 (dk_at dksX5_isWord_0 15 rfl rfl)
theorem dX5_isWord_16 : decode cX5_isWord 16 = .ok (.istore_n 2, 1) := dk_61 (dk_at dksX5_isWord_0 16 rfl rfl)
theorem dX5_isWord_17 : decode cX5_isWord 17 = .ok (.iload_n 2, 1) := dk_28 (dk_at dksX5_isWord_0 17 rfl rfl)
theorem dX5_isWord_18 : decode cX5_isWord 18 = .ok (.aload_n 0, 1) := dk_42 (dk_at dksX5_isWord_0 18 rfl rfl)
theorem dX5_isWord_19 : decode cX5_isWord 19 = .ok (.getfield 183, 3) := dk_180 0 183 (dk_at dksX5_isWord_0 19 rfl rfl)
theorem dX5_isWord_22 : decode cX5_isWord 22 = .ok (.if_icmp .ge 25, 3) := dk_162 0 25 (dk_at dksX5_isWord_1 0 rfl rfl)
theorem dX5_isWord_25 : decode cX5_isWord 25 = .ok (.iload_n 1, 1) := dk_27 (dk_at dksX5_isWord_1 3 rfl rfl)
theorem dX5_isWord_26 : decode cX5_isWord 26 = .ok (.aload_n 0, 1) := dk_42 (dk_at dksX5_isWord_1 4 rfl rfl)
theorem dX5_isWord_27 : decode cX5_isWord 27 = .ok (.getfield 46, 3) := dk_180 0 46 (dk_at dksX5_isWord_1 5 rfl rfl)
theorem dX5_isWord_30 : decode cX5_isWord 30 = .ok (.iload_n 2, 1) := dk_28 (dk_at dksX5_isWord_1 8 rfl rfl)
theorem dX5_isWord_31 : decode cX5_isWord 31 = .ok (.iaload, 1) := dk_46 (dk_at dksX5_isWord_1 9 rfl rfl)
theorem dX5_isWord_32 : decode cX5_isWord 32 = .ok (.bipush 97, 2) := dk_16 97 (dk_at dksX5_isWord_1 10 rfl rfl)
theorem dX5_isWord_34 : decode cX5_isWord 34 = .ok (.bipush 100, 2) := dk_16 100 (dk_at dksX5_isWord_1 12 rfl rfl)
theorem dX5_isWord_36 : decode cX5_isWord 36 = .ok (.invokestatic 95, 3) := dk_184 0 95 (dk_at dksX5_isWord_1 14 rfl rfl)
theorem dX5_isWord_39 : decode cX5_isWord 39 = .ok (.iand, 1) := dk_126 (dk_at dksX5_isWord_1 17 rfl rfl)
theorem dX5_isWord_40 : decode cX5_isWord 40 = .ok (.istore_n 1, 1) := dk_60 (dk_at dksX5_isWord_1 18 rfl rfl)
theorem dX5_isWord_41 : decode cX5_isWord 41 = .ok (.iinc 2 1, 3) := dk_132 2 1 (dk_at dksX5_isWord_1 19 rfl rfl)
theorem dX5_isWord_44 : decode cX5_isWord 44 = .ok (.goto (-27), 3) := dk_167 255 229 (dk_at dksX5_isWord_2 0 rfl rfl)
theorem dX5_isWord_47 : decode cX5_isWord 47 = .ok (.iload_n 1, 1) := dk_27 (dk_at dksX5_isWord_2 3 rfl rfl)
theorem dX5_isWord_48 : decode cX5_isWord 48 = .ok (.ireturn, 1) := dk_172 (dk_at dksX5_isWord_2 4 rfl rfl)
abbrev cX5_reads : ByteArray := prog_19_method_42_code
def yX5_reads : MethodName := ⟨RX5, "reads", "()Z"⟩
def dkwX5_reads_8 : List UInt8 := [167, 255, 226, 42, 182, 0, 196, 60, 167, 255, 110, 42, 180, 0, 193, 155, 0, 7, 4, 167, 0, 4, 3, 172]
abbrev dktX5_reads_8 : List UInt8 := dkwX5_reads_8 ++ []
def dkwX5_reads_7 : List UInt8 := [162, 0, 27, 42, 180, 0, 22, 21, 4, 46, 28, 160, 0, 10, 42, 27, 21, 4, 182, 0, 203, 132, 4, 1]
abbrev dktX5_reads_7 : List UInt8 := dkwX5_reads_7 ++ dktX5_reads_8
def dkwX5_reads_6 : List UInt8 := [180, 0, 37, 28, 46, 96, 181, 0, 200, 42, 27, 181, 0, 193, 3, 54, 4, 21, 4, 42, 180, 0, 153]
abbrev dktX5_reads_6 : List UInt8 := dkwX5_reads_6 ++ dktX5_reads_7
def dkwX5_reads_5 : List UInt8 := [27, 7, 42, 180, 0, 200, 42, 180, 0, 193, 182, 0, 189, 153, 0, 25, 42, 42, 180, 0, 49, 27, 46, 42]
abbrev dktX5_reads_5 : List UInt8 := dkwX5_reads_5 ++ dktX5_reads_6
def dkwX5_reads_4 : List UInt8 := [153, 0, 62, 42, 180, 0, 193, 155, 0, 33, 42, 42, 180, 0, 49, 27, 46, 42, 180, 0, 37, 28, 46, 96]
abbrev dktX5_reads_4 : List UInt8 := dkwX5_reads_4 ++ dktX5_reads_5
def dkwX5_reads_3 : List UInt8 := [112, 42, 180, 0, 183, 160, 0, 16, 42, 180, 0, 37, 28, 46, 155, 0, 7, 4, 167, 0, 4, 3, 62, 29]
abbrev dktX5_reads_3 : List UInt8 := dkwX5_reads_3 ++ dktX5_reads_4
def dkwX5_reads_2 : List UInt8 := [42, 182, 0, 196, 60, 27, 155, 0, 148, 42, 180, 0, 55, 27, 4, 79, 27, 16, 9, 108, 61, 27, 16, 9]
abbrev dktX5_reads_2 : List UInt8 := dkwX5_reads_2 ++ dktX5_reads_3
def dkwX5_reads_1 : List UInt8 := [180, 0, 52, 27, 3, 79, 132, 1, 1, 167, 255, 225, 42, 180, 0, 49, 3, 3, 79, 42, 2, 181, 0, 193]
abbrev dktX5_reads_1 : List UInt8 := dkwX5_reads_1 ++ dktX5_reads_2
def dkwX5_reads_0 : List UInt8 := [3, 60, 27, 17, 0, 225, 162, 0, 30, 42, 180, 0, 49, 27, 2, 79, 42, 180, 0, 55, 27, 3, 79, 42]
abbrev dktX5_reads_0 : List UInt8 := dkwX5_reads_0 ++ dktX5_reads_1
theorem dksX5_reads_0 : cX5_reads.data.toList.drop 0 = dktX5_reads_0 := by decide +kernel
theorem dksX5_reads_1 : cX5_reads.data.toList.drop 24 = dktX5_reads_1 := dk_seg dksX5_reads_0 24 rfl rfl
theorem dksX5_reads_2 : cX5_reads.data.toList.drop 48 = dktX5_reads_2 := dk_seg dksX5_reads_1 24 rfl rfl
theorem dksX5_reads_3 : cX5_reads.data.toList.drop 72 = dktX5_reads_3 := dk_seg dksX5_reads_2 24 rfl rfl
theorem dksX5_reads_4 : cX5_reads.data.toList.drop 96 = dktX5_reads_4 := dk_seg dksX5_reads_3 24 rfl rfl
theorem dksX5_reads_5 : cX5_reads.data.toList.drop 120 = dktX5_reads_5 := dk_seg dksX5_reads_4 24 rfl rfl
theorem dksX5_reads_6 : cX5_reads.data.toList.drop 144 = dktX5_reads_6 := dk_seg dksX5_reads_5 24 rfl rfl
theorem dksX5_reads_7 : cX5_reads.data.toList.drop 167 = dktX5_reads_7 := dk_seg dksX5_reads_6 23 rfl rfl
theorem dksX5_reads_8 : cX5_reads.data.toList.drop 191 = dktX5_reads_8 := dk_seg dksX5_reads_7 24 rfl rfl
theorem dX5_reads_0 : decode cX5_reads 0 = .ok (.iconst 0, 1) := dk_3 (dk_at dksX5_reads_0 0 rfl rfl)
theorem dX5_reads_1 : decode cX5_reads 1 = .ok (.istore_n 1, 1) := dk_60 (dk_at dksX5_reads_0 1 rfl rfl)
theorem dX5_reads_2 : decode cX5_reads 2 = .ok (.iload_n 1, 1) := dk_27 (dk_at dksX5_reads_0 2 rfl rfl)
theorem dX5_reads_3 : decode cX5_reads 3 = .ok (.sipush 225, 3) := dk_17 0 225 (dk_at dksX5_reads_0 3 rfl rfl)
theorem dX5_reads_6 : decode cX5_reads 6 = .ok (.if_icmp .ge 30, 3) := dk_162 0 30 (dk_at dksX5_reads_0 6 rfl rfl)
theorem dX5_reads_9 : decode cX5_reads 9 = .ok (.aload_n 0, 1) := dk_42 (dk_at dksX5_reads_0 9 rfl rfl)
theorem dX5_reads_10 : decode cX5_reads 10 = .ok (.getfield 49, 3) := dk_180 0 49 (dk_at dksX5_reads_0 10 rfl rfl)
theorem dX5_reads_13 : decode cX5_reads 13 = .ok (.iload_n 1, 1) := dk_27 (dk_at dksX5_reads_0 13 rfl rfl)
theorem dX5_reads_14 : decode cX5_reads 14 = .ok (.iconst (-1), 1) := dk_2 (dk_at dksX5_reads_0 14 rfl rfl)
theorem dX5_reads_15 : decode cX5_reads 15 = .ok (.iastore, 1) := dk_79 (dk_at dksX5_reads_0 15 rfl rfl)
theorem dX5_reads_16 : decode cX5_reads 16 = .ok (.aload_n 0, 1) := dk_42 (dk_at dksX5_reads_0 16 rfl rfl)
theorem dX5_reads_17 : decode cX5_reads 17 = .ok (.getfield 55, 3) := dk_180 0 55 (dk_at dksX5_reads_0 17 rfl rfl)
theorem dX5_reads_20 : decode cX5_reads 20 = .ok (.iload_n 1, 1) := dk_27 (dk_at dksX5_reads_0 20 rfl rfl)
theorem dX5_reads_21 : decode cX5_reads 21 = .ok (.iconst 0, 1) := dk_3 (dk_at dksX5_reads_0 21 rfl rfl)
theorem dX5_reads_22 : decode cX5_reads 22 = .ok (.iastore, 1) := dk_79 (dk_at dksX5_reads_0 22 rfl rfl)
theorem dX5_reads_23 : decode cX5_reads 23 = .ok (.aload_n 0, 1) := dk_42 (dk_at dksX5_reads_0 23 rfl rfl)
theorem dX5_reads_24 : decode cX5_reads 24 = .ok (.getfield 52, 3) := dk_180 0 52 (dk_at dksX5_reads_1 0 rfl rfl)
theorem dX5_reads_27 : decode cX5_reads 27 = .ok (.iload_n 1, 1) := dk_27 (dk_at dksX5_reads_1 3 rfl rfl)
theorem dX5_reads_28 : decode cX5_reads 28 = .ok (.iconst 0, 1) := dk_3 (dk_at dksX5_reads_1 4 rfl rfl)
theorem dX5_reads_29 : decode cX5_reads 29 = .ok (.iastore, 1) := dk_79 (dk_at dksX5_reads_1 5 rfl rfl)
theorem dX5_reads_30 : decode cX5_reads 30 = .ok (.iinc 1 1, 3) := dk_132 1 1 (dk_at dksX5_reads_1 6 rfl rfl)
theorem dX5_reads_33 : decode cX5_reads 33 = .ok (.goto (-31), 3) := dk_167 255 225 (dk_at dksX5_reads_1 9 rfl rfl)
theorem dX5_reads_36 : decode cX5_reads 36 = .ok (.aload_n 0, 1) := dk_42 (dk_at dksX5_reads_1 12 rfl rfl)
theorem dX5_reads_37 : decode cX5_reads 37 = .ok (.getfield 49, 3) := dk_180 0 49 (dk_at dksX5_reads_1 13 rfl rfl)
theorem dX5_reads_40 : decode cX5_reads 40 = .ok (.iconst 0, 1) := dk_3 (dk_at dksX5_reads_1 16 rfl rfl)
theorem dX5_reads_41 : decode cX5_reads 41 = .ok (.iconst 0, 1) := dk_3 (dk_at dksX5_reads_1 17 rfl rfl)
theorem dX5_reads_42 : decode cX5_reads 42 = .ok (.iastore, 1) := dk_79 (dk_at dksX5_reads_1 18 rfl rfl)
theorem dX5_reads_43 : decode cX5_reads 43 = .ok (.aload_n 0, 1) := dk_42 (dk_at dksX5_reads_1 19 rfl rfl)
theorem dX5_reads_44 : decode cX5_reads 44 = .ok (.iconst (-1), 1) := dk_2 (dk_at dksX5_reads_1 20 rfl rfl)
theorem dX5_reads_45 : decode cX5_reads 45 = .ok (.putfield 193, 3) := dk_181 0 193 (dk_at dksX5_reads_1 21 rfl rfl)
theorem dX5_reads_48 : decode cX5_reads 48 = .ok (.aload_n 0, 1) := dk_42 (dk_at dksX5_reads_2 0 rfl rfl)
theorem dX5_reads_49 : decode cX5_reads 49 = .ok (.invokevirtual 196, 3) := dk_182 0 196 (dk_at dksX5_reads_2 1 rfl rfl)
theorem dX5_reads_52 : decode cX5_reads 52 = .ok (.istore_n 1, 1) := dk_60 (dk_at dksX5_reads_2 4 rfl rfl)
theorem dX5_reads_53 : decode cX5_reads 53 = .ok (.iload_n 1, 1) := dk_27 (dk_at dksX5_reads_2 5 rfl rfl)
theorem dX5_reads_54 : decode cX5_reads 54 = .ok (.ifCond .lt 148, 3) := dk_155 0 148 (dk_at dksX5_reads_2 6 rfl rfl)
theorem dX5_reads_57 : decode cX5_reads 57 = .ok (.aload_n 0, 1) := dk_42 (dk_at dksX5_reads_2 9 rfl rfl)
theorem dX5_reads_58 : decode cX5_reads 58 = .ok (.getfield 55, 3) := dk_180 0 55 (dk_at dksX5_reads_2 10 rfl rfl)
theorem dX5_reads_61 : decode cX5_reads 61 = .ok (.iload_n 1, 1) := dk_27 (dk_at dksX5_reads_2 13 rfl rfl)
theorem dX5_reads_62 : decode cX5_reads 62 = .ok (.iconst 1, 1) := dk_4 (dk_at dksX5_reads_2 14 rfl rfl)
theorem dX5_reads_63 : decode cX5_reads 63 = .ok (.iastore, 1) := dk_79 (dk_at dksX5_reads_2 15 rfl rfl)
theorem dX5_reads_64 : decode cX5_reads 64 = .ok (.iload_n 1, 1) := dk_27 (dk_at dksX5_reads_2 16 rfl rfl)
theorem dX5_reads_65 : decode cX5_reads 65 = .ok (.bipush 9, 2) := dk_16 9 (dk_at dksX5_reads_2 17 rfl rfl)
theorem dX5_reads_67 : decode cX5_reads 67 = .ok (.idiv, 1) := dk_108 (dk_at dksX5_reads_2 19 rfl rfl)
theorem dX5_reads_68 : decode cX5_reads 68 = .ok (.istore_n 2, 1) := dk_61 (dk_at dksX5_reads_2 20 rfl rfl)
theorem dX5_reads_69 : decode cX5_reads 69 = .ok (.iload_n 1, 1) := dk_27 (dk_at dksX5_reads_2 21 rfl rfl)
theorem dX5_reads_70 : decode cX5_reads 70 = .ok (.bipush 9, 2) := dk_16 9 (dk_at dksX5_reads_2 22 rfl rfl)
theorem dX5_reads_72 : decode cX5_reads 72 = .ok (.irem, 1) := dk_112 (dk_at dksX5_reads_3 0 rfl rfl)
theorem dX5_reads_73 : decode cX5_reads 73 = .ok (.aload_n 0, 1) := dk_42 (dk_at dksX5_reads_3 1 rfl rfl)
theorem dX5_reads_74 : decode cX5_reads 74 = .ok (.getfield 183, 3) := dk_180 0 183 (dk_at dksX5_reads_3 2 rfl rfl)
theorem dX5_reads_77 : decode cX5_reads 77 = .ok (.if_icmp .ne 16, 3) := dk_160 0 16 (dk_at dksX5_reads_3 5 rfl rfl)
theorem dX5_reads_80 : decode cX5_reads 80 = .ok (.aload_n 0, 1) := dk_42 (dk_at dksX5_reads_3 8 rfl rfl)
theorem dX5_reads_81 : decode cX5_reads 81 = .ok (.getfield 37, 3) := dk_180 0 37 (dk_at dksX5_reads_3 9 rfl rfl)
theorem dX5_reads_84 : decode cX5_reads 84 = .ok (.iload_n 2, 1) := dk_28 (dk_at dksX5_reads_3 12 rfl rfl)
theorem dX5_reads_85 : decode cX5_reads 85 = .ok (.iaload, 1) := dk_46 (dk_at dksX5_reads_3 13 rfl rfl)
theorem dX5_reads_86 : decode cX5_reads 86 = .ok (.ifCond .lt 7, 3) := dk_155 0 7 (dk_at dksX5_reads_3 14 rfl rfl)
theorem dX5_reads_89 : decode cX5_reads 89 = .ok (.iconst 1, 1) := dk_4 (dk_at dksX5_reads_3 17 rfl rfl)
theorem dX5_reads_90 : decode cX5_reads 90 = .ok (.goto 4, 3) := dk_167 0 4 (dk_at dksX5_reads_3 18 rfl rfl)
theorem dX5_reads_93 : decode cX5_reads 93 = .ok (.iconst 0, 1) := dk_3 (dk_at dksX5_reads_3 21 rfl rfl)
theorem dX5_reads_94 : decode cX5_reads 94 = .ok (.istore_n 3, 1) := dk_62 (dk_at dksX5_reads_3 22 rfl rfl)
theorem dX5_reads_95 : decode cX5_reads 95 = .ok (.iload_n 3, 1) := dk_29 (dk_at dksX5_reads_3 23 rfl rfl)
theorem dX5_reads_96 : decode cX5_reads 96 = .ok (.ifCond .eq 62, 3) := dk_153 0 62 (dk_at dksX5_reads_4 0 rfl rfl)
theorem dX5_reads_99 : decode cX5_reads 99 = .ok (.aload_n 0, 1) := dk_42 (dk_at dksX5_reads_4 3 rfl rfl)
theorem dX5_reads_100 : decode cX5_reads 100 = .ok (.getfield 193, 3) := dk_180 0 193 (dk_at dksX5_reads_4 4 rfl rfl)
theorem dX5_reads_103 : decode cX5_reads 103 = .ok (.ifCond .lt 33, 3) := dk_155 0 33 (dk_at dksX5_reads_4 7 rfl rfl)
theorem dX5_reads_106 : decode cX5_reads 106 = .ok (.aload_n 0, 1) := dk_42 (dk_at dksX5_reads_4 10 rfl rfl)
theorem dX5_reads_107 : decode cX5_reads 107 = .ok (.aload_n 0, 1) := dk_42 (dk_at dksX5_reads_4 11 rfl rfl)
theorem dX5_reads_108 : decode cX5_reads 108 = .ok (.getfield 49, 3) := dk_180 0 49 (dk_at dksX5_reads_4 12 rfl rfl)
theorem dX5_reads_111 : decode cX5_reads 111 = .ok (.iload_n 1, 1) := dk_27 (dk_at dksX5_reads_4 15 rfl rfl)
theorem dX5_reads_112 : decode cX5_reads 112 = .ok (.iaload, 1) := dk_46 (dk_at dksX5_reads_4 16 rfl rfl)
theorem dX5_reads_113 : decode cX5_reads 113 = .ok (.aload_n 0, 1) := dk_42 (dk_at dksX5_reads_4 17 rfl rfl)
theorem dX5_reads_114 : decode cX5_reads 114 = .ok (.getfield 37, 3) := dk_180 0 37 (dk_at dksX5_reads_4 18 rfl rfl)
theorem dX5_reads_117 : decode cX5_reads 117 = .ok (.iload_n 2, 1) := dk_28 (dk_at dksX5_reads_4 21 rfl rfl)
theorem dX5_reads_118 : decode cX5_reads 118 = .ok (.iaload, 1) := dk_46 (dk_at dksX5_reads_4 22 rfl rfl)
theorem dX5_reads_119 : decode cX5_reads 119 = .ok (.iadd, 1) := dk_96 (dk_at dksX5_reads_4 23 rfl rfl)
theorem dX5_reads_120 : decode cX5_reads 120 = .ok (.iload_n 1, 1) := dk_27 (dk_at dksX5_reads_5 0 rfl rfl)
theorem dX5_reads_121 : decode cX5_reads 121 = .ok (.iconst 4, 1) := dk_7 (dk_at dksX5_reads_5 1 rfl rfl)
theorem dX5_reads_122 : decode cX5_reads 122 = .ok (.aload_n 0, 1) := dk_42 (dk_at dksX5_reads_5 2 rfl rfl)
theorem dX5_reads_123 : decode cX5_reads 123 = .ok (.getfield 200, 3) := dk_180 0 200 (dk_at dksX5_reads_5 3 rfl rfl)
theorem dX5_reads_126 : decode cX5_reads 126 = .ok (.aload_n 0, 1) := dk_42 (dk_at dksX5_reads_5 6 rfl rfl)
theorem dX5_reads_127 : decode cX5_reads 127 = .ok (.getfield 193, 3) := dk_180 0 193 (dk_at dksX5_reads_5 7 rfl rfl)
theorem dX5_reads_130 : decode cX5_reads 130 = .ok (.invokevirtual 189, 3) := dk_182 0 189 (dk_at dksX5_reads_5 10 rfl rfl)
theorem dX5_reads_133 : decode cX5_reads 133 = .ok (.ifCond .eq 25, 3) := dk_153 0 25 (dk_at dksX5_reads_5 13 rfl rfl)
theorem dX5_reads_136 : decode cX5_reads 136 = .ok (.aload_n 0, 1) := dk_42 (dk_at dksX5_reads_5 16 rfl rfl)
theorem dX5_reads_137 : decode cX5_reads 137 = .ok (.aload_n 0, 1) := dk_42 (dk_at dksX5_reads_5 17 rfl rfl)
theorem dX5_reads_138 : decode cX5_reads 138 = .ok (.getfield 49, 3) := dk_180 0 49 (dk_at dksX5_reads_5 18 rfl rfl)
theorem dX5_reads_141 : decode cX5_reads 141 = .ok (.iload_n 1, 1) := dk_27 (dk_at dksX5_reads_5 21 rfl rfl)
theorem dX5_reads_142 : decode cX5_reads 142 = .ok (.iaload, 1) := dk_46 (dk_at dksX5_reads_5 22 rfl rfl)
theorem dX5_reads_143 : decode cX5_reads 143 = .ok (.aload_n 0, 1) := dk_42 (dk_at dksX5_reads_5 23 rfl rfl)
theorem dX5_reads_144 : decode cX5_reads 144 = .ok (.getfield 37, 3) := dk_180 0 37 (dk_at dksX5_reads_6 0 rfl rfl)
theorem dX5_reads_147 : decode cX5_reads 147 = .ok (.iload_n 2, 1) := dk_28 (dk_at dksX5_reads_6 3 rfl rfl)
theorem dX5_reads_148 : decode cX5_reads 148 = .ok (.iaload, 1) := dk_46 (dk_at dksX5_reads_6 4 rfl rfl)
theorem dX5_reads_149 : decode cX5_reads 149 = .ok (.iadd, 1) := dk_96 (dk_at dksX5_reads_6 5 rfl rfl)
theorem dX5_reads_150 : decode cX5_reads 150 = .ok (.putfield 200, 3) := dk_181 0 200 (dk_at dksX5_reads_6 6 rfl rfl)
theorem dX5_reads_153 : decode cX5_reads 153 = .ok (.aload_n 0, 1) := dk_42 (dk_at dksX5_reads_6 9 rfl rfl)
theorem dX5_reads_154 : decode cX5_reads 154 = .ok (.iload_n 1, 1) := dk_27 (dk_at dksX5_reads_6 10 rfl rfl)
theorem dX5_reads_155 : decode cX5_reads 155 = .ok (.putfield 193, 3) := dk_181 0 193 (dk_at dksX5_reads_6 11 rfl rfl)
theorem dX5_reads_158 : decode cX5_reads 158 = .ok (.iconst 0, 1) := dk_3 (dk_at dksX5_reads_6 14 rfl rfl)
theorem dX5_reads_159 : decode cX5_reads 159 = .ok (.istore 4, 2) := dk_54 4 (dk_at dksX5_reads_6 15 rfl rfl)
theorem dX5_reads_161 : decode cX5_reads 161 = .ok (.iload 4, 2) := dk_21 4 (dk_at dksX5_reads_6 17 rfl rfl)
theorem dX5_reads_163 : decode cX5_reads 163 = .ok (.aload_n 0, 1) := dk_42 (dk_at dksX5_reads_6 19 rfl rfl)
theorem dX5_reads_164 : decode cX5_reads 164 = .ok (.getfield 153, 3) := dk_180 0 153 (dk_at dksX5_reads_6 20 rfl rfl)
theorem dX5_reads_167 : decode cX5_reads 167 = .ok (.if_icmp .ge 27, 3) := dk_162 0 27 (dk_at dksX5_reads_7 0 rfl rfl)
theorem dX5_reads_170 : decode cX5_reads 170 = .ok (.aload_n 0, 1) := dk_42 (dk_at dksX5_reads_7 3 rfl rfl)
theorem dX5_reads_171 : decode cX5_reads 171 = .ok (.getfield 22, 3) := dk_180 0 22 (dk_at dksX5_reads_7 4 rfl rfl)
theorem dX5_reads_174 : decode cX5_reads 174 = .ok (.iload 4, 2) := dk_21 4 (dk_at dksX5_reads_7 7 rfl rfl)
theorem dX5_reads_176 : decode cX5_reads 176 = .ok (.iaload, 1) := dk_46 (dk_at dksX5_reads_7 9 rfl rfl)
theorem dX5_reads_177 : decode cX5_reads 177 = .ok (.iload_n 2, 1) := dk_28 (dk_at dksX5_reads_7 10 rfl rfl)
theorem dX5_reads_178 : decode cX5_reads 178 = .ok (.if_icmp .ne 10, 3) := dk_160 0 10 (dk_at dksX5_reads_7 11 rfl rfl)
theorem dX5_reads_181 : decode cX5_reads 181 = .ok (.aload_n 0, 1) := dk_42 (dk_at dksX5_reads_7 14 rfl rfl)
theorem dX5_reads_182 : decode cX5_reads 182 = .ok (.iload_n 1, 1) := dk_27 (dk_at dksX5_reads_7 15 rfl rfl)
theorem dX5_reads_183 : decode cX5_reads 183 = .ok (.iload 4, 2) := dk_21 4 (dk_at dksX5_reads_7 16 rfl rfl)
theorem dX5_reads_185 : decode cX5_reads 185 = .ok (.invokevirtual 203, 3) := dk_182 0 203 (dk_at dksX5_reads_7 18 rfl rfl)
theorem dX5_reads_188 : decode cX5_reads 188 = .ok (.iinc 4 1, 3) := dk_132 4 1 (dk_at dksX5_reads_7 21 rfl rfl)
theorem dX5_reads_191 : decode cX5_reads 191 = .ok (.goto (-30), 3) := dk_167 255 226 (dk_at dksX5_reads_8 0 rfl rfl)
theorem dX5_reads_194 : decode cX5_reads 194 = .ok (.aload_n 0, 1) := dk_42 (dk_at dksX5_reads_8 3 rfl rfl)
theorem dX5_reads_195 : decode cX5_reads 195 = .ok (.invokevirtual 196, 3) := dk_182 0 196 (dk_at dksX5_reads_8 4 rfl rfl)
theorem dX5_reads_198 : decode cX5_reads 198 = .ok (.istore_n 1, 1) := dk_60 (dk_at dksX5_reads_8 7 rfl rfl)
theorem dX5_reads_199 : decode cX5_reads 199 = .ok (.goto (-146), 3) := dk_167 255 110 (dk_at dksX5_reads_8 8 rfl rfl)
theorem dX5_reads_202 : decode cX5_reads 202 = .ok (.aload_n 0, 1) := dk_42 (dk_at dksX5_reads_8 11 rfl rfl)
theorem dX5_reads_203 : decode cX5_reads 203 = .ok (.getfield 193, 3) := dk_180 0 193 (dk_at dksX5_reads_8 12 rfl rfl)
theorem dX5_reads_206 : decode cX5_reads 206 = .ok (.ifCond .lt 7, 3) := dk_155 0 7 (dk_at dksX5_reads_8 15 rfl rfl)
theorem dX5_reads_209 : decode cX5_reads 209 = .ok (.iconst 1, 1) := dk_4 (dk_at dksX5_reads_8 18 rfl rfl)
theorem dX5_reads_210 : decode cX5_reads 210 = .ok (.goto 4, 3) := dk_167 0 4 (dk_at dksX5_reads_8 19 rfl rfl)
theorem dX5_reads_213 : decode cX5_reads 213 = .ok (.iconst 0, 1) := dk_3 (dk_at dksX5_reads_8 22 rfl rfl)
theorem dX5_reads_214 : decode cX5_reads 214 = .ok (.ireturn, 1) := dk_172 (dk_at dksX5_reads_8 23 rfl rfl)
abbrev cX5_nextPlace : ByteArray := prog_19_method_41_code
def yX5_nextPlace : MethodName := ⟨RX5, "nextPlace", "()I"⟩
def dkwX5_nextPlace_2 : List UInt8 := [180, 0, 49, 27, 46, 27, 182, 0, 189, 153, 0, 5, 28, 60, 132, 2, 1, 167, 255, 196, 27, 172]
abbrev dktX5_nextPlace_2 : List UInt8 := dkwX5_nextPlace_2 ++ []
def dkwX5_nextPlace_1 : List UInt8 := [42, 180, 0, 49, 28, 46, 155, 0, 31, 27, 155, 0, 25, 42, 42, 180, 0, 49, 28, 46, 28, 7, 42]
abbrev dktX5_nextPlace_1 : List UInt8 := dkwX5_nextPlace_1 ++ dktX5_nextPlace_2
def dkwX5_nextPlace_0 : List UInt8 := [2, 60, 3, 61, 28, 16, 9, 42, 180, 0, 156, 104, 162, 0, 55, 42, 180, 0, 55, 28, 46, 154, 0, 40]
abbrev dktX5_nextPlace_0 : List UInt8 := dkwX5_nextPlace_0 ++ dktX5_nextPlace_1
theorem dksX5_nextPlace_0 : cX5_nextPlace.data.toList.drop 0 = dktX5_nextPlace_0 := by decide +kernel
theorem dksX5_nextPlace_1 : cX5_nextPlace.data.toList.drop 24 = dktX5_nextPlace_1 := dk_seg dksX5_nextPlace_0 24 rfl rfl
theorem dksX5_nextPlace_2 : cX5_nextPlace.data.toList.drop 47 = dktX5_nextPlace_2 := dk_seg dksX5_nextPlace_1 23 rfl rfl
theorem dX5_nextPlace_0 : decode cX5_nextPlace 0 = .ok (.iconst (-1), 1) := dk_2 (dk_at dksX5_nextPlace_0 0 rfl rfl)
theorem dX5_nextPlace_1 : decode cX5_nextPlace 1 = .ok (.istore_n 1, 1) := dk_60 (dk_at dksX5_nextPlace_0 1 rfl rfl)
theorem dX5_nextPlace_2 : decode cX5_nextPlace 2 = .ok (.iconst 0, 1) := dk_3 (dk_at dksX5_nextPlace_0 2 rfl rfl)
theorem dX5_nextPlace_3 : decode cX5_nextPlace 3 = .ok (.istore_n 2, 1) := dk_61 (dk_at dksX5_nextPlace_0 3 rfl rfl)
theorem dX5_nextPlace_4 : decode cX5_nextPlace 4 = .ok (.iload_n 2, 1) := dk_28 (dk_at dksX5_nextPlace_0 4 rfl rfl)
theorem dX5_nextPlace_5 : decode cX5_nextPlace 5 = .ok (.bipush 9, 2) := dk_16 9 (dk_at dksX5_nextPlace_0 5 rfl rfl)
theorem dX5_nextPlace_7 : decode cX5_nextPlace 7 = .ok (.aload_n 0, 1) := dk_42 (dk_at dksX5_nextPlace_0 7 rfl rfl)
theorem dX5_nextPlace_8 : decode cX5_nextPlace 8 = .ok (.getfield 156, 3) := dk_180 0 156 (dk_at dksX5_nextPlace_0 8 rfl rfl)
theorem dX5_nextPlace_11 : decode cX5_nextPlace 11 = .ok (.imul, 1) := dk_104 (dk_at dksX5_nextPlace_0 11 rfl rfl)
theorem dX5_nextPlace_12 : decode cX5_nextPlace 12 = .ok (.if_icmp .ge 55, 3) := dk_162 0 55 (dk_at dksX5_nextPlace_0 12 rfl rfl)
theorem dX5_nextPlace_15 : decode cX5_nextPlace 15 = .ok (.aload_n 0, 1) := dk_42 (dk_at dksX5_nextPlace_0 15 rfl rfl)
theorem dX5_nextPlace_16 : decode cX5_nextPlace 16 = .ok (.getfield 55, 3) := dk_180 0 55 (dk_at dksX5_nextPlace_0 16 rfl rfl)
theorem dX5_nextPlace_19 : decode cX5_nextPlace 19 = .ok (.iload_n 2, 1) := dk_28 (dk_at dksX5_nextPlace_0 19 rfl rfl)
theorem dX5_nextPlace_20 : decode cX5_nextPlace 20 = .ok (.iaload, 1) := dk_46 (dk_at dksX5_nextPlace_0 20 rfl rfl)
theorem dX5_nextPlace_21 : decode cX5_nextPlace 21 = .ok (.ifCond .ne 40, 3) := dk_154 0 40 (dk_at dksX5_nextPlace_0 21 rfl rfl)
theorem dX5_nextPlace_24 : decode cX5_nextPlace 24 = .ok (.aload_n 0, 1) := dk_42 (dk_at dksX5_nextPlace_1 0 rfl rfl)
theorem dX5_nextPlace_25 : decode cX5_nextPlace 25 = .ok (.getfield 49, 3) := dk_180 0 49 (dk_at dksX5_nextPlace_1 1 rfl rfl)
theorem dX5_nextPlace_28 : decode cX5_nextPlace 28 = .ok (.iload_n 2, 1) := dk_28 (dk_at dksX5_nextPlace_1 4 rfl rfl)
theorem dX5_nextPlace_29 : decode cX5_nextPlace 29 = .ok (.iaload, 1) := dk_46 (dk_at dksX5_nextPlace_1 5 rfl rfl)
theorem dX5_nextPlace_30 : decode cX5_nextPlace 30 = .ok (.ifCond .lt 31, 3) := dk_155 0 31 (dk_at dksX5_nextPlace_1 6 rfl rfl)
theorem dX5_nextPlace_33 : decode cX5_nextPlace 33 = .ok (.iload_n 1, 1) := dk_27 (dk_at dksX5_nextPlace_1 9 rfl rfl)
theorem dX5_nextPlace_34 : decode cX5_nextPlace 34 = .ok (.ifCond .lt 25, 3) := dk_155 0 25 (dk_at dksX5_nextPlace_1 10 rfl rfl)
theorem dX5_nextPlace_37 : decode cX5_nextPlace 37 = .ok (.aload_n 0, 1) := dk_42 (dk_at dksX5_nextPlace_1 13 rfl rfl)
theorem dX5_nextPlace_38 : decode cX5_nextPlace 38 = .ok (.aload_n 0, 1) := dk_42 (dk_at dksX5_nextPlace_1 14 rfl rfl)
theorem dX5_nextPlace_39 : decode cX5_nextPlace 39 = .ok (.getfield 49, 3) := dk_180 0 49 (dk_at dksX5_nextPlace_1 15 rfl rfl)
theorem dX5_nextPlace_42 : decode cX5_nextPlace 42 = .ok (.iload_n 2, 1) := dk_28 (dk_at dksX5_nextPlace_1 18 rfl rfl)
theorem dX5_nextPlace_43 : decode cX5_nextPlace 43 = .ok (.iaload, 1) := dk_46 (dk_at dksX5_nextPlace_1 19 rfl rfl)
theorem dX5_nextPlace_44 : decode cX5_nextPlace 44 = .ok (.iload_n 2, 1) := dk_28 (dk_at dksX5_nextPlace_1 20 rfl rfl)
theorem dX5_nextPlace_45 : decode cX5_nextPlace 45 = .ok (.iconst 4, 1) := dk_7 (dk_at dksX5_nextPlace_1 21 rfl rfl)
theorem dX5_nextPlace_46 : decode cX5_nextPlace 46 = .ok (.aload_n 0, 1) := dk_42 (dk_at dksX5_nextPlace_1 22 rfl rfl)
theorem dX5_nextPlace_47 : decode cX5_nextPlace 47 = .ok (.getfield 49, 3) := dk_180 0 49 (dk_at dksX5_nextPlace_2 0 rfl rfl)
theorem dX5_nextPlace_50 : decode cX5_nextPlace 50 = .ok (.iload_n 1, 1) := dk_27 (dk_at dksX5_nextPlace_2 3 rfl rfl)
theorem dX5_nextPlace_51 : decode cX5_nextPlace 51 = .ok (.iaload, 1) := dk_46 (dk_at dksX5_nextPlace_2 4 rfl rfl)
theorem dX5_nextPlace_52 : decode cX5_nextPlace 52 = .ok (.iload_n 1, 1) := dk_27 (dk_at dksX5_nextPlace_2 5 rfl rfl)
theorem dX5_nextPlace_53 : decode cX5_nextPlace 53 = .ok (.invokevirtual 189, 3) := dk_182 0 189 (dk_at dksX5_nextPlace_2 6 rfl rfl)
theorem dX5_nextPlace_56 : decode cX5_nextPlace 56 = .ok (.ifCond .eq 5, 3) := dk_153 0 5 (dk_at dksX5_nextPlace_2 9 rfl rfl)
theorem dX5_nextPlace_59 : decode cX5_nextPlace 59 = .ok (.iload_n 2, 1) := dk_28 (dk_at dksX5_nextPlace_2 12 rfl rfl)
theorem dX5_nextPlace_60 : decode cX5_nextPlace 60 = .ok (.istore_n 1, 1) := dk_60 (dk_at dksX5_nextPlace_2 13 rfl rfl)
theorem dX5_nextPlace_61 : decode cX5_nextPlace 61 = .ok (.iinc 2 1, 3) := dk_132 2 1 (dk_at dksX5_nextPlace_2 14 rfl rfl)
theorem dX5_nextPlace_64 : decode cX5_nextPlace 64 = .ok (.goto (-60), 3) := dk_167 255 196 (dk_at dksX5_nextPlace_2 17 rfl rfl)
theorem dX5_nextPlace_67 : decode cX5_nextPlace 67 = .ok (.iload_n 1, 1) := dk_27 (dk_at dksX5_nextPlace_2 20 rfl rfl)
theorem dX5_nextPlace_68 : decode cX5_nextPlace 68 = .ok (.ireturn, 1) := dk_172 (dk_at dksX5_nextPlace_2 21 rfl rfl)
abbrev cX5_isLess : ByteArray := prog_19_method_39_code
def yX5_isLess : MethodName := ⟨RX5, "isLess", "(IIIII)Z"⟩
def dkwX5_isLess_3 : List UInt8 := [3, 172]
abbrev dktX5_isLess_3 : List UInt8 := dkwX5_isLess_3 ++ []
def dkwX5_isLess_2 : List UInt8 := [180, 0, 52, 21, 5, 46, 160, 0, 18, 42, 28, 29, 21, 5, 182, 0, 186, 156, 0, 7, 4, 167, 0, 4]
abbrev dktX5_isLess_2 : List UInt8 := dkwX5_isLess_2 ++ dktX5_isLess_3
def dkwX5_isLess_1 : List UInt8 := [161, 0, 44, 27, 21, 4, 160, 0, 42, 21, 6, 42, 180, 0, 52, 21, 5, 46, 161, 0, 26, 21, 6, 42]
abbrev dktX5_isLess_1 : List UInt8 := dkwX5_isLess_1 ++ dktX5_isLess_2
def dkwX5_isLess_0 : List UInt8 := [42, 180, 0, 52, 28, 46, 29, 7, 160, 0, 7, 3, 167, 0, 4, 4, 96, 54, 6, 27, 21, 4]
abbrev dktX5_isLess_0 : List UInt8 := dkwX5_isLess_0 ++ dktX5_isLess_1
theorem dksX5_isLess_0 : cX5_isLess.data.toList.drop 0 = dktX5_isLess_0 := by decide +kernel
theorem dksX5_isLess_1 : cX5_isLess.data.toList.drop 22 = dktX5_isLess_1 := dk_seg dksX5_isLess_0 22 rfl rfl
theorem dksX5_isLess_2 : cX5_isLess.data.toList.drop 46 = dktX5_isLess_2 := dk_seg dksX5_isLess_1 24 rfl rfl
theorem dksX5_isLess_3 : cX5_isLess.data.toList.drop 70 = dktX5_isLess_3 := dk_seg dksX5_isLess_2 24 rfl rfl
theorem dX5_isLess_0 : decode cX5_isLess 0 = .ok (.aload_n 0, 1) := dk_42 (dk_at dksX5_isLess_0 0 rfl rfl)
theorem dX5_isLess_1 : decode cX5_isLess 1 = .ok (.getfield 52, 3) := dk_180 0 52 (dk_at dksX5_isLess_0 1 rfl rfl)
theorem dX5_isLess_4 : decode cX5_isLess 4 = .ok (.iload_n 2, 1) := dk_28 (dk_at dksX5_isLess_0 4 rfl rfl)
theorem dX5_isLess_5 : decode cX5_isLess 5 = .ok (.iaload, 1) := dk_46 (dk_at dksX5_isLess_0 5 rfl rfl)
theorem dX5_isLess_6 : decode cX5_isLess 6 = .ok (.iload_n 3, 1) := dk_29 (dk_at dksX5_isLess_0 6 rfl rfl)
theorem dX5_isLess_7 : decode cX5_isLess 7 = .ok (.iconst 4, 1) := dk_7 (dk_at dksX5_isLess_0 7 rfl rfl)
theorem dX5_isLess_8 : decode cX5_isLess 8 = .ok (.if_icmp .ne 7, 3) := dk_160 0 7 (dk_at dksX5_isLess_0 8 rfl rfl)
theorem dX5_isLess_11 : decode cX5_isLess 11 = .ok (.iconst 0, 1) := dk_3 (dk_at dksX5_isLess_0 11 rfl rfl)
theorem dX5_isLess_12 : decode cX5_isLess 12 = .ok (.goto 4, 3) := dk_167 0 4 (dk_at dksX5_isLess_0 12 rfl rfl)
theorem dX5_isLess_15 : decode cX5_isLess 15 = .ok (.iconst 1, 1) := dk_4 (dk_at dksX5_isLess_0 15 rfl rfl)
theorem dX5_isLess_16 : decode cX5_isLess 16 = .ok (.iadd, 1) := dk_96 (dk_at dksX5_isLess_0 16 rfl rfl)
theorem dX5_isLess_17 : decode cX5_isLess 17 = .ok (.istore 6, 2) := dk_54 6 (dk_at dksX5_isLess_0 17 rfl rfl)
theorem dX5_isLess_19 : decode cX5_isLess 19 = .ok (.iload_n 1, 1) := dk_27 (dk_at dksX5_isLess_0 19 rfl rfl)
theorem dX5_isLess_20 : decode cX5_isLess 20 = .ok (.iload 4, 2) := dk_21 4 (dk_at dksX5_isLess_0 20 rfl rfl)
theorem dX5_isLess_22 : decode cX5_isLess 22 = .ok (.if_icmp .lt 44, 3) := dk_161 0 44 (dk_at dksX5_isLess_1 0 rfl rfl)
theorem dX5_isLess_25 : decode cX5_isLess 25 = .ok (.iload_n 1, 1) := dk_27 (dk_at dksX5_isLess_1 3 rfl rfl)
theorem dX5_isLess_26 : decode cX5_isLess 26 = .ok (.iload 4, 2) := dk_21 4 (dk_at dksX5_isLess_1 4 rfl rfl)
theorem dX5_isLess_28 : decode cX5_isLess 28 = .ok (.if_icmp .ne 42, 3) := dk_160 0 42 (dk_at dksX5_isLess_1 6 rfl rfl)
theorem dX5_isLess_31 : decode cX5_isLess 31 = .ok (.iload 6, 2) := dk_21 6 (dk_at dksX5_isLess_1 9 rfl rfl)
theorem dX5_isLess_33 : decode cX5_isLess 33 = .ok (.aload_n 0, 1) := dk_42 (dk_at dksX5_isLess_1 11 rfl rfl)
theorem dX5_isLess_34 : decode cX5_isLess 34 = .ok (.getfield 52, 3) := dk_180 0 52 (dk_at dksX5_isLess_1 12 rfl rfl)
theorem dX5_isLess_37 : decode cX5_isLess 37 = .ok (.iload 5, 2) := dk_21 5 (dk_at dksX5_isLess_1 15 rfl rfl)
theorem dX5_isLess_39 : decode cX5_isLess 39 = .ok (.iaload, 1) := dk_46 (dk_at dksX5_isLess_1 17 rfl rfl)
theorem dX5_isLess_40 : decode cX5_isLess 40 = .ok (.if_icmp .lt 26, 3) := dk_161 0 26 (dk_at dksX5_isLess_1 18 rfl rfl)
theorem dX5_isLess_43 : decode cX5_isLess 43 = .ok (.iload 6, 2) := dk_21 6 (dk_at dksX5_isLess_1 21 rfl rfl)
theorem dX5_isLess_45 : decode cX5_isLess 45 = .ok (.aload_n 0, 1) := dk_42 (dk_at dksX5_isLess_1 23 rfl rfl)
theorem dX5_isLess_46 : decode cX5_isLess 46 = .ok (.getfield 52, 3) := dk_180 0 52 (dk_at dksX5_isLess_2 0 rfl rfl)
theorem dX5_isLess_49 : decode cX5_isLess 49 = .ok (.iload 5, 2) := dk_21 5 (dk_at dksX5_isLess_2 3 rfl rfl)
theorem dX5_isLess_51 : decode cX5_isLess 51 = .ok (.iaload, 1) := dk_46 (dk_at dksX5_isLess_2 5 rfl rfl)
theorem dX5_isLess_52 : decode cX5_isLess 52 = .ok (.if_icmp .ne 18, 3) := dk_160 0 18 (dk_at dksX5_isLess_2 6 rfl rfl)
theorem dX5_isLess_55 : decode cX5_isLess 55 = .ok (.aload_n 0, 1) := dk_42 (dk_at dksX5_isLess_2 9 rfl rfl)
theorem dX5_isLess_56 : decode cX5_isLess 56 = .ok (.iload_n 2, 1) := dk_28 (dk_at dksX5_isLess_2 10 rfl rfl)
theorem dX5_isLess_57 : decode cX5_isLess 57 = .ok (.iload_n 3, 1) := dk_29 (dk_at dksX5_isLess_2 11 rfl rfl)
theorem dX5_isLess_58 : decode cX5_isLess 58 = .ok (.iload 5, 2) := dk_21 5 (dk_at dksX5_isLess_2 12 rfl rfl)
theorem dX5_isLess_60 : decode cX5_isLess 60 = .ok (.invokevirtual 186, 3) := dk_182 0 186 (dk_at dksX5_isLess_2 14 rfl rfl)
theorem dX5_isLess_63 : decode cX5_isLess 63 = .ok (.ifCond .ge 7, 3) := dk_156 0 7 (dk_at dksX5_isLess_2 17 rfl rfl)
theorem dX5_isLess_66 : decode cX5_isLess 66 = .ok (.iconst 1, 1) := dk_4 (dk_at dksX5_isLess_2 20 rfl rfl)
theorem dX5_isLess_67 : decode cX5_isLess 67 = .ok (.goto 4, 3) := dk_167 0 4 (dk_at dksX5_isLess_2 21 rfl rfl)
theorem dX5_isLess_70 : decode cX5_isLess 70 = .ok (.iconst 0, 1) := dk_3 (dk_at dksX5_isLess_3 0 rfl rfl)
theorem dX5_isLess_71 : decode cX5_isLess 71 = .ok (.ireturn, 1) := dk_172 (dk_at dksX5_isLess_3 1 rfl rfl)
abbrev cX5_compares : ByteArray := prog_19_method_38_code
def yX5_compares : MethodName := ⟨RX5, "compares", "(III)I"⟩
def dkwX5_compares_4 : List UInt8 := [104, 42, 180, 0, 52, 27, 46, 96, 46, 100, 172]
abbrev dktX5_compares_4 : List UInt8 := dkwX5_compares_4 ++ []
def dkwX5_compares_3 : List UInt8 := [132, 4, 1, 167, 255, 185, 28, 7, 160, 0, 7, 3, 167, 0, 22, 28, 42, 180, 0, 59, 17, 0, 230, 29]
abbrev dktX5_compares_3 : List UInt8 := dkwX5_compares_3 ++ dktX5_compares_4
def dkwX5_compares_2 : List UInt8 := [17, 0, 230, 27, 104, 21, 4, 96, 46, 42, 180, 0, 59, 17, 0, 230, 29, 104, 21, 4, 96, 46, 100, 172]
abbrev dktX5_compares_2 : List UInt8 := dkwX5_compares_2 ++ dktX5_compares_3
def dkwX5_compares_1 : List UInt8 := [21, 4, 96, 46, 42, 180, 0, 59, 17, 0, 230, 29, 104, 21, 4, 96, 46, 159, 0, 31, 42, 180, 0, 59]
abbrev dktX5_compares_1 : List UInt8 := dkwX5_compares_1 ++ dktX5_compares_2
def dkwX5_compares_0 : List UInt8 := [3, 54, 4, 21, 4, 42, 180, 0, 52, 27, 46, 162, 0, 66, 42, 180, 0, 59, 17, 0, 230, 27, 104]
abbrev dktX5_compares_0 : List UInt8 := dkwX5_compares_0 ++ dktX5_compares_1
theorem dksX5_compares_0 : cX5_compares.data.toList.drop 0 = dktX5_compares_0 := by decide +kernel
theorem dksX5_compares_1 : cX5_compares.data.toList.drop 23 = dktX5_compares_1 := dk_seg dksX5_compares_0 23 rfl rfl
theorem dksX5_compares_2 : cX5_compares.data.toList.drop 47 = dktX5_compares_2 := dk_seg dksX5_compares_1 24 rfl rfl
theorem dksX5_compares_3 : cX5_compares.data.toList.drop 71 = dktX5_compares_3 := dk_seg dksX5_compares_2 24 rfl rfl
theorem dksX5_compares_4 : cX5_compares.data.toList.drop 95 = dktX5_compares_4 := dk_seg dksX5_compares_3 24 rfl rfl
theorem dX5_compares_0 : decode cX5_compares 0 = .ok (.iconst 0, 1) := dk_3 (dk_at dksX5_compares_0 0 rfl rfl)
theorem dX5_compares_1 : decode cX5_compares 1 = .ok (.istore 4, 2) := dk_54 4 (dk_at dksX5_compares_0 1 rfl rfl)
theorem dX5_compares_3 : decode cX5_compares 3 = .ok (.iload 4, 2) := dk_21 4 (dk_at dksX5_compares_0 3 rfl rfl)
theorem dX5_compares_5 : decode cX5_compares 5 = .ok (.aload_n 0, 1) := dk_42 (dk_at dksX5_compares_0 5 rfl rfl)
theorem dX5_compares_6 : decode cX5_compares 6 = .ok (.getfield 52, 3) := dk_180 0 52 (dk_at dksX5_compares_0 6 rfl rfl)
theorem dX5_compares_9 : decode cX5_compares 9 = .ok (.iload_n 1, 1) := dk_27 (dk_at dksX5_compares_0 9 rfl rfl)
theorem dX5_compares_10 : decode cX5_compares 10 = .ok (.iaload, 1) := dk_46 (dk_at dksX5_compares_0 10 rfl rfl)
theorem dX5_compares_11 : decode cX5_compares 11 = .ok (.if_icmp .ge 66, 3) := dk_162 0 66 (dk_at dksX5_compares_0 11 rfl rfl)
theorem dX5_compares_14 : decode cX5_compares 14 = .ok (.aload_n 0, 1) := dk_42 (dk_at dksX5_compares_0 14 rfl rfl)
theorem dX5_compares_15 : decode cX5_compares 15 = .ok (.getfield 59, 3) := dk_180 0 59 (dk_at dksX5_compares_0 15 rfl rfl)
theorem dX5_compares_18 : decode cX5_compares 18 = .ok (.sipush 230, 3) := dk_17 0 230 (dk_at dksX5_compares_0 18 rfl rfl)
theorem dX5_compares_21 : decode cX5_compares 21 = .ok (.iload_n 1, 1) := dk_27 (dk_at dksX5_compares_0 21 rfl rfl)
theorem dX5_compares_22 : decode cX5_compares 22 = .ok (.imul, 1) := dk_104 (dk_at dksX5_compares_0 22 rfl rfl)
theorem dX5_compares_23 : decode cX5_compares 23 = .ok (.iload 4, 2) := dk_21 4 (dk_at dksX5_compares_1 0 rfl rfl)
theorem dX5_compares_25 : decode cX5_compares 25 = .ok (.iadd, 1) := dk_96 (dk_at dksX5_compares_1 2 rfl rfl)
theorem dX5_compares_26 : decode cX5_compares 26 = .ok (.iaload, 1) := dk_46 (dk_at dksX5_compares_1 3 rfl rfl)
theorem dX5_compares_27 : decode cX5_compares 27 = .ok (.aload_n 0, 1) := dk_42 (dk_at dksX5_compares_1 4 rfl rfl)
theorem dX5_compares_28 : decode cX5_compares 28 = .ok (.getfield 59, 3) := dk_180 0 59 (dk_at dksX5_compares_1 5 rfl rfl)
theorem dX5_compares_31 : decode cX5_compares 31 = .ok (.sipush 230, 3) := dk_17 0 230 (dk_at dksX5_compares_1 8 rfl rfl)
theorem dX5_compares_34 : decode cX5_compares 34 = .ok (.iload_n 3, 1) := dk_29 (dk_at dksX5_compares_1 11 rfl rfl)
theorem dX5_compares_35 : decode cX5_compares 35 = .ok (.imul, 1) := dk_104 (dk_at dksX5_compares_1 12 rfl rfl)
theorem dX5_compares_36 : decode cX5_compares 36 = .ok (.iload 4, 2) := dk_21 4 (dk_at dksX5_compares_1 13 rfl rfl)
theorem dX5_compares_38 : decode cX5_compares 38 = .ok (.iadd, 1) := dk_96 (dk_at dksX5_compares_1 15 rfl rfl)
theorem dX5_compares_39 : decode cX5_compares 39 = .ok (.iaload, 1) := dk_46 (dk_at dksX5_compares_1 16 rfl rfl)
theorem dX5_compares_40 : decode cX5_compares 40 = .ok (.if_icmp .eq 31, 3) := dk_159 0 31 (dk_at dksX5_compares_1 17 rfl rfl)
theorem dX5_compares_43 : decode cX5_compares 43 = .ok (.aload_n 0, 1) := dk_42 (dk_at dksX5_compares_1 20 rfl rfl)
theorem dX5_compares_44 : decode cX5_compares 44 = .ok (.getfield 59, 3) := dk_180 0 59 (dk_at dksX5_compares_1 21 rfl rfl)
theorem dX5_compares_47 : decode cX5_compares 47 = .ok (.sipush 230, 3) := dk_17 0 230 (dk_at dksX5_compares_2 0 rfl rfl)
theorem dX5_compares_50 : decode cX5_compares 50 = .ok (.iload_n 1, 1) := dk_27 (dk_at dksX5_compares_2 3 rfl rfl)
theorem dX5_compares_51 : decode cX5_compares 51 = .ok (.imul, 1) := dk_104 (dk_at dksX5_compares_2 4 rfl rfl)
theorem dX5_compares_52 : decode cX5_compares 52 = .ok (.iload 4, 2) := dk_21 4 (dk_at dksX5_compares_2 5 rfl rfl)
theorem dX5_compares_54 : decode cX5_compares 54 = .ok (.iadd, 1) := dk_96 (dk_at dksX5_compares_2 7 rfl rfl)
theorem dX5_compares_55 : decode cX5_compares 55 = .ok (.iaload, 1) := dk_46 (dk_at dksX5_compares_2 8 rfl rfl)
theorem dX5_compares_56 : decode cX5_compares 56 = .ok (.aload_n 0, 1) := dk_42 (dk_at dksX5_compares_2 9 rfl rfl)
theorem dX5_compares_57 : decode cX5_compares 57 = .ok (.getfield 59, 3) := dk_180 0 59 (dk_at dksX5_compares_2 10 rfl rfl)
theorem dX5_compares_60 : decode cX5_compares 60 = .ok (.sipush 230, 3) := dk_17 0 230 (dk_at dksX5_compares_2 13 rfl rfl)
theorem dX5_compares_63 : decode cX5_compares 63 = .ok (.iload_n 3, 1) := dk_29 (dk_at dksX5_compares_2 16 rfl rfl)
theorem dX5_compares_64 : decode cX5_compares 64 = .ok (.imul, 1) := dk_104 (dk_at dksX5_compares_2 17 rfl rfl)
theorem dX5_compares_65 : decode cX5_compares 65 = .ok (.iload 4, 2) := dk_21 4 (dk_at dksX5_compares_2 18 rfl rfl)
theorem dX5_compares_67 : decode cX5_compares 67 = .ok (.iadd, 1) := dk_96 (dk_at dksX5_compares_2 20 rfl rfl)
theorem dX5_compares_68 : decode cX5_compares 68 = .ok (.iaload, 1) := dk_46 (dk_at dksX5_compares_2 21 rfl rfl)
theorem dX5_compares_69 : decode cX5_compares 69 = .ok (.isub, 1) := dk_100 (dk_at dksX5_compares_2 22 rfl rfl)
theorem dX5_compares_70 : decode cX5_compares 70 = .ok (.ireturn, 1) := dk_172 (dk_at dksX5_compares_2 23 rfl rfl)
theorem dX5_compares_71 : decode cX5_compares 71 = .ok (.iinc 4 1, 3) := dk_132 4 1 (dk_at dksX5_compares_3 0 rfl rfl)
theorem dX5_compares_74 : decode cX5_compares 74 = .ok (.goto (-71), 3) := dk_167 255 185 (dk_at dksX5_compares_3 3 rfl rfl)
theorem dX5_compares_77 : decode cX5_compares 77 = .ok (.iload_n 2, 1) := dk_28 (dk_at dksX5_compares_3 6 rfl rfl)
theorem dX5_compares_78 : decode cX5_compares 78 = .ok (.iconst 4, 1) := dk_7 (dk_at dksX5_compares_3 7 rfl rfl)
theorem dX5_compares_79 : decode cX5_compares 79 = .ok (.if_icmp .ne 7, 3) := dk_160 0 7 (dk_at dksX5_compares_3 8 rfl rfl)
theorem dX5_compares_82 : decode cX5_compares 82 = .ok (.iconst 0, 1) := dk_3 (dk_at dksX5_compares_3 11 rfl rfl)
theorem dX5_compares_83 : decode cX5_compares 83 = .ok (.goto 22, 3) := dk_167 0 22 (dk_at dksX5_compares_3 12 rfl rfl)
theorem dX5_compares_86 : decode cX5_compares 86 = .ok (.iload_n 2, 1) := dk_28 (dk_at dksX5_compares_3 15 rfl rfl)
theorem dX5_compares_87 : decode cX5_compares 87 = .ok (.aload_n 0, 1) := dk_42 (dk_at dksX5_compares_3 16 rfl rfl)
theorem dX5_compares_88 : decode cX5_compares 88 = .ok (.getfield 59, 3) := dk_180 0 59 (dk_at dksX5_compares_3 17 rfl rfl)
theorem dX5_compares_91 : decode cX5_compares 91 = .ok (.sipush 230, 3) := dk_17 0 230 (dk_at dksX5_compares_3 20 rfl rfl)
theorem dX5_compares_94 : decode cX5_compares 94 = .ok (.iload_n 3, 1) := dk_29 (dk_at dksX5_compares_3 23 rfl rfl)
theorem dX5_compares_95 : decode cX5_compares 95 = .ok (.imul, 1) := dk_104 (dk_at dksX5_compares_4 0 rfl rfl)
theorem dX5_compares_96 : decode cX5_compares 96 = .ok (.aload_n 0, 1) := dk_42 (dk_at dksX5_compares_4 1 rfl rfl)
theorem dX5_compares_97 : decode cX5_compares 97 = .ok (.getfield 52, 3) := dk_180 0 52 (dk_at dksX5_compares_4 2 rfl rfl)
theorem dX5_compares_100 : decode cX5_compares 100 = .ok (.iload_n 1, 1) := dk_27 (dk_at dksX5_compares_4 5 rfl rfl)
theorem dX5_compares_101 : decode cX5_compares 101 = .ok (.iaload, 1) := dk_46 (dk_at dksX5_compares_4 6 rfl rfl)
theorem dX5_compares_102 : decode cX5_compares 102 = .ok (.iadd, 1) := dk_96 (dk_at dksX5_compares_4 7 rfl rfl)
theorem dX5_compares_103 : decode cX5_compares 103 = .ok (.iaload, 1) := dk_46 (dk_at dksX5_compares_4 8 rfl rfl)
theorem dX5_compares_104 : decode cX5_compares 104 = .ok (.isub, 1) := dk_100 (dk_at dksX5_compares_4 9 rfl rfl)
theorem dX5_compares_105 : decode cX5_compares 105 = .ok (.ireturn, 1) := dk_172 (dk_at dksX5_compares_4 10 rfl rfl)
abbrev cX5_goes : ByteArray := prog_19_method_40_code
def yX5_goes : MethodName := ⟨RX5, "goes", "(II)V"⟩
def dkwX5_goes_10 : List UInt8 := [21, 5, 46, 96, 42, 180, 0, 31, 28, 46, 79, 42, 180, 0, 52, 21, 5, 92, 46, 4, 96, 79, 177]
abbrev dktX5_goes_10 : List UInt8 := dkwX5_goes_10 ++ []
def dkwX5_goes_9 : List UInt8 := [180, 0, 31, 28, 46, 7, 160, 0, 4, 177, 42, 180, 0, 59, 17, 0, 230, 21, 5, 104, 42, 180, 0, 52]
abbrev dktX5_goes_9 : List UInt8 := dkwX5_goes_9 ++ dktX5_goes_10
def dkwX5_goes_8 : List UInt8 := [46, 79, 132, 7, 1, 167, 255, 215, 42, 180, 0, 52, 21, 5, 42, 180, 0, 52, 27, 46, 79, 42]
abbrev dktX5_goes_8 : List UInt8 := dkwX5_goes_8 ++ dktX5_goes_9
def dkwX5_goes_7 : List UInt8 := [180, 0, 59, 17, 0, 230, 21, 5, 104, 21, 7, 96, 42, 180, 0, 59, 17, 0, 230, 27, 104, 21, 7, 96]
abbrev dktX5_goes_7 : List UInt8 := dkwX5_goes_7 ++ dktX5_goes_8
def dkwX5_goes_6 : List UInt8 := [180, 0, 49, 21, 5, 21, 6, 79, 3, 54, 7, 21, 7, 42, 180, 0, 52, 27, 46, 162, 0, 36, 42]
abbrev dktX5_goes_6 : List UInt8 := dkwX5_goes_6 ++ dktX5_goes_7
def dkwX5_goes_5 : List UInt8 := [180, 0, 31, 28, 46, 42, 180, 0, 49, 21, 5, 46, 21, 5, 182, 0, 189, 154, 0, 4, 177, 42]
abbrev dktX5_goes_5 : List UInt8 := dkwX5_goes_5 ++ dktX5_goes_6
def dkwX5_goes_4 : List UInt8 := [21, 5, 46, 4, 159, 0, 38, 42, 180, 0, 49, 21, 5, 46, 155, 0, 29, 42, 21, 6, 27, 42]
abbrev dktX5_goes_4 : List UInt8 := dkwX5_goes_4 ++ dktX5_goes_5
def dkwX5_goes_3 : List UInt8 := [21, 4, 96, 54, 5, 42, 180, 0, 49, 27, 46, 42, 180, 0, 34, 28, 46, 96, 54, 6, 42, 180, 0, 55]
abbrev dktX5_goes_3 : List UInt8 := dkwX5_goes_3 ++ dktX5_goes_4
def dkwX5_goes_2 : List UInt8 := [46, 16, 97, 100, 42, 180, 0, 28, 28, 46, 159, 0, 4, 177, 16, 9, 42, 180, 0, 25, 28, 46, 104]
abbrev dktX5_goes_2 : List UInt8 := dkwX5_goes_2 ++ dktX5_goes_3
def dkwX5_goes_1 : List UInt8 := [21, 4, 42, 180, 0, 183, 163, 0, 31, 42, 180, 0, 28, 28, 46, 7, 159, 0, 22, 42, 180, 0, 46, 29]
abbrev dktX5_goes_1 : List UInt8 := dkwX5_goes_1 ++ dktX5_goes_2
def dkwX5_goes_0 : List UInt8 := [27, 16, 9, 112, 62, 29, 42, 180, 0, 28, 28, 46, 7, 160, 0, 7, 3, 167, 0, 4, 4, 96, 54, 4]
abbrev dktX5_goes_0 : List UInt8 := dkwX5_goes_0 ++ dktX5_goes_1
theorem dksX5_goes_0 : cX5_goes.data.toList.drop 0 = dktX5_goes_0 := by decide +kernel
theorem dksX5_goes_1 : cX5_goes.data.toList.drop 24 = dktX5_goes_1 := dk_seg dksX5_goes_0 24 rfl rfl
theorem dksX5_goes_2 : cX5_goes.data.toList.drop 48 = dktX5_goes_2 := dk_seg dksX5_goes_1 24 rfl rfl
theorem dksX5_goes_3 : cX5_goes.data.toList.drop 71 = dktX5_goes_3 := dk_seg dksX5_goes_2 23 rfl rfl
theorem dksX5_goes_4 : cX5_goes.data.toList.drop 95 = dktX5_goes_4 := dk_seg dksX5_goes_3 24 rfl rfl
theorem dksX5_goes_5 : cX5_goes.data.toList.drop 117 = dktX5_goes_5 := dk_seg dksX5_goes_4 22 rfl rfl
theorem dksX5_goes_6 : cX5_goes.data.toList.drop 139 = dktX5_goes_6 := dk_seg dksX5_goes_5 22 rfl rfl
theorem dksX5_goes_7 : cX5_goes.data.toList.drop 162 = dktX5_goes_7 := dk_seg dksX5_goes_6 23 rfl rfl
theorem dksX5_goes_8 : cX5_goes.data.toList.drop 186 = dktX5_goes_8 := dk_seg dksX5_goes_7 24 rfl rfl
theorem dksX5_goes_9 : cX5_goes.data.toList.drop 208 = dktX5_goes_9 := dk_seg dksX5_goes_8 22 rfl rfl
theorem dksX5_goes_10 : cX5_goes.data.toList.drop 232 = dktX5_goes_10 := dk_seg dksX5_goes_9 24 rfl rfl
theorem dX5_goes_0 : decode cX5_goes 0 = .ok (.iload_n 1, 1) := dk_27 (dk_at dksX5_goes_0 0 rfl rfl)
theorem dX5_goes_1 : decode cX5_goes 1 = .ok (.bipush 9, 2) := dk_16 9 (dk_at dksX5_goes_0 1 rfl rfl)
theorem dX5_goes_3 : decode cX5_goes 3 = .ok (.irem, 1) := dk_112 (dk_at dksX5_goes_0 3 rfl rfl)
theorem dX5_goes_4 : decode cX5_goes 4 = .ok (.istore_n 3, 1) := dk_62 (dk_at dksX5_goes_0 4 rfl rfl)
theorem dX5_goes_5 : decode cX5_goes 5 = .ok (.iload_n 3, 1) := dk_29 (dk_at dksX5_goes_0 5 rfl rfl)
theorem dX5_goes_6 : decode cX5_goes 6 = .ok (.aload_n 0, 1) := dk_42 (dk_at dksX5_goes_0 6 rfl rfl)
theorem dX5_goes_7 : decode cX5_goes 7 = .ok (.getfield 28, 3) := dk_180 0 28 (dk_at dksX5_goes_0 7 rfl rfl)
theorem dX5_goes_10 : decode cX5_goes 10 = .ok (.iload_n 2, 1) := dk_28 (dk_at dksX5_goes_0 10 rfl rfl)
theorem dX5_goes_11 : decode cX5_goes 11 = .ok (.iaload, 1) := dk_46 (dk_at dksX5_goes_0 11 rfl rfl)
theorem dX5_goes_12 : decode cX5_goes 12 = .ok (.iconst 4, 1) := dk_7 (dk_at dksX5_goes_0 12 rfl rfl)
theorem dX5_goes_13 : decode cX5_goes 13 = .ok (.if_icmp .ne 7, 3) := dk_160 0 7 (dk_at dksX5_goes_0 13 rfl rfl)
theorem dX5_goes_16 : decode cX5_goes 16 = .ok (.iconst 0, 1) := dk_3 (dk_at dksX5_goes_0 16 rfl rfl)
theorem dX5_goes_17 : decode cX5_goes 17 = .ok (.goto 4, 3) := dk_167 0 4 (dk_at dksX5_goes_0 17 rfl rfl)
theorem dX5_goes_20 : decode cX5_goes 20 = .ok (.iconst 1, 1) := dk_4 (dk_at dksX5_goes_0 20 rfl rfl)
theorem dX5_goes_21 : decode cX5_goes 21 = .ok (.iadd, 1) := dk_96 (dk_at dksX5_goes_0 21 rfl rfl)
theorem dX5_goes_22 : decode cX5_goes 22 = .ok (.istore 4, 2) := dk_54 4 (dk_at dksX5_goes_0 22 rfl rfl)
theorem dX5_goes_24 : decode cX5_goes 24 = .ok (.iload 4, 2) := dk_21 4 (dk_at dksX5_goes_1 0 rfl rfl)
theorem dX5_goes_26 : decode cX5_goes 26 = .ok (.aload_n 0, 1) := dk_42 (dk_at dksX5_goes_1 2 rfl rfl)
theorem dX5_goes_27 : decode cX5_goes 27 = .ok (.getfield 183, 3) := dk_180 0 183 (dk_at dksX5_goes_1 3 rfl rfl)
theorem dX5_goes_30 : decode cX5_goes 30 = .ok (.if_icmp .gt 31, 3) := dk_163 0 31 (dk_at dksX5_goes_1 6 rfl rfl)
theorem dX5_goes_33 : decode cX5_goes 33 = .ok (.aload_n 0, 1) := dk_42 (dk_at dksX5_goes_1 9 rfl rfl)
theorem dX5_goes_34 : decode cX5_goes 34 = .ok (.getfield 28, 3) := dk_180 0 28 (dk_at dksX5_goes_1 10 rfl rfl)
theorem dX5_goes_37 : decode cX5_goes 37 = .ok (.iload_n 2, 1) := dk_28 (dk_at dksX5_goes_1 13 rfl rfl)
theorem dX5_goes_38 : decode cX5_goes 38 = .ok (.iaload, 1) := dk_46 (dk_at dksX5_goes_1 14 rfl rfl)
theorem dX5_goes_39 : decode cX5_goes 39 = .ok (.iconst 4, 1) := dk_7 (dk_at dksX5_goes_1 15 rfl rfl)
theorem dX5_goes_40 : decode cX5_goes 40 = .ok (.if_icmp .eq 22, 3) := dk_159 0 22 (dk_at dksX5_goes_1 16 rfl rfl)
theorem dX5_goes_43 : decode cX5_goes 43 = .ok (.aload_n 0, 1) := dk_42 (dk_at dksX5_goes_1 19 rfl rfl)
theorem dX5_goes_44 : decode cX5_goes 44 = .ok (.getfield 46, 3) := dk_180 0 46 (dk_at dksX5_goes_1 20 rfl rfl)
theorem dX5_goes_47 : decode cX5_goes 47 = .ok (.iload_n 3, 1) := dk_29 (dk_at dksX5_goes_1 23 rfl rfl)
theorem dX5_goes_48 : decode cX5_goes 48 = .ok (.iaload, 1) := dk_46 (dk_at dksX5_goes_2 0 rfl rfl)
theorem dX5_goes_49 : decode cX5_goes 49 = .ok (.bipush 97, 2) := dk_16 97 (dk_at dksX5_goes_2 1 rfl rfl)
theorem dX5_goes_51 : decode cX5_goes 51 = .ok (.isub, 1) := dk_100 (dk_at dksX5_goes_2 3 rfl rfl)
theorem dX5_goes_52 : decode cX5_goes 52 = .ok (.aload_n 0, 1) := dk_42 (dk_at dksX5_goes_2 4 rfl rfl)
theorem dX5_goes_53 : decode cX5_goes 53 = .ok (.getfield 28, 3) := dk_180 0 28 (dk_at dksX5_goes_2 5 rfl rfl)
theorem dX5_goes_56 : decode cX5_goes 56 = .ok (.iload_n 2, 1) := dk_28 (dk_at dksX5_goes_2 8 rfl rfl)
theorem dX5_goes_57 : decode cX5_goes 57 = .ok (.iaload, 1) := dk_46 (dk_at dksX5_goes_2 9 rfl rfl)
theorem dX5_goes_58 : decode cX5_goes 58 = .ok (.if_icmp .eq 4, 3) := dk_159 0 4 (dk_at dksX5_goes_2 10 rfl rfl)
theorem dX5_goes_61 : decode cX5_goes 61 = .ok (.return_, 1) := dk_177 (dk_at dksX5_goes_2 13 rfl rfl)
theorem dX5_goes_62 : decode cX5_goes 62 = .ok (.bipush 9, 2) := dk_16 9 (dk_at dksX5_goes_2 14 rfl rfl)
theorem dX5_goes_64 : decode cX5_goes 64 = .ok (.aload_n 0, 1) := dk_42 (dk_at dksX5_goes_2 16 rfl rfl)
theorem dX5_goes_65 : decode cX5_goes 65 = .ok (.getfield 25, 3) := dk_180 0 25 (dk_at dksX5_goes_2 17 rfl rfl)
theorem dX5_goes_68 : decode cX5_goes 68 = .ok (.iload_n 2, 1) := dk_28 (dk_at dksX5_goes_2 20 rfl rfl)
theorem dX5_goes_69 : decode cX5_goes 69 = .ok (.iaload, 1) := dk_46 (dk_at dksX5_goes_2 21 rfl rfl)
theorem dX5_goes_70 : decode cX5_goes 70 = .ok (.imul, 1) := dk_104 (dk_at dksX5_goes_2 22 rfl rfl)
theorem dX5_goes_71 : decode cX5_goes 71 = .ok (.iload 4, 2) := dk_21 4 (dk_at dksX5_goes_3 0 rfl rfl)
theorem dX5_goes_73 : decode cX5_goes 73 = .ok (.iadd, 1) := dk_96 (dk_at dksX5_goes_3 2 rfl rfl)
theorem dX5_goes_74 : decode cX5_goes 74 = .ok (.istore 5, 2) := dk_54 5 (dk_at dksX5_goes_3 3 rfl rfl)
theorem dX5_goes_76 : decode cX5_goes 76 = .ok (.aload_n 0, 1) := dk_42 (dk_at dksX5_goes_3 5 rfl rfl)
theorem dX5_goes_77 : decode cX5_goes 77 = .ok (.getfield 49, 3) := dk_180 0 49 (dk_at dksX5_goes_3 6 rfl rfl)
theorem dX5_goes_80 : decode cX5_goes 80 = .ok (.iload_n 1, 1) := dk_27 (dk_at dksX5_goes_3 9 rfl rfl)
theorem dX5_goes_81 : decode cX5_goes 81 = .ok (.iaload, 1) := dk_46 (dk_at dksX5_goes_3 10 rfl rfl)
theorem dX5_goes_82 : decode cX5_goes 82 = .ok (.aload_n 0, 1) := dk_42 (dk_at dksX5_goes_3 11 rfl rfl)
theorem dX5_goes_83 : decode cX5_goes 83 = .ok (.getfield 34, 3) := dk_180 0 34 (dk_at dksX5_goes_3 12 rfl rfl)
theorem dX5_goes_86 : decode cX5_goes 86 = .ok (.iload_n 2, 1) := dk_28 (dk_at dksX5_goes_3 15 rfl rfl)
theorem dX5_goes_87 : decode cX5_goes 87 = .ok (.iaload, 1) := dk_46 (dk_at dksX5_goes_3 16 rfl rfl)
theorem dX5_goes_88 : decode cX5_goes 88 = .ok (.iadd, 1) := dk_96 (dk_at dksX5_goes_3 17 rfl rfl)
theorem dX5_goes_89 : decode cX5_goes 89 = .ok (.istore 6, 2) := dk_54 6 (dk_at dksX5_goes_3 18 rfl rfl)
theorem dX5_goes_91 : decode cX5_goes 91 = .ok (.aload_n 0, 1) := dk_42 (dk_at dksX5_goes_3 20 rfl rfl)
theorem dX5_goes_92 : decode cX5_goes 92 = .ok (.getfield 55, 3) := dk_180 0 55 (dk_at dksX5_goes_3 21 rfl rfl)
theorem dX5_goes_95 : decode cX5_goes 95 = .ok (.iload 5, 2) := dk_21 5 (dk_at dksX5_goes_4 0 rfl rfl)
theorem dX5_goes_97 : decode cX5_goes 97 = .ok (.iaload, 1) := dk_46 (dk_at dksX5_goes_4 2 rfl rfl)
theorem dX5_goes_98 : decode cX5_goes 98 = .ok (.iconst 1, 1) := dk_4 (dk_at dksX5_goes_4 3 rfl rfl)
theorem dX5_goes_99 : decode cX5_goes 99 = .ok (.if_icmp .eq 38, 3) := dk_159 0 38 (dk_at dksX5_goes_4 4 rfl rfl)
theorem dX5_goes_102 : decode cX5_goes 102 = .ok (.aload_n 0, 1) := dk_42 (dk_at dksX5_goes_4 7 rfl rfl)
theorem dX5_goes_103 : decode cX5_goes 103 = .ok (.getfield 49, 3) := dk_180 0 49 (dk_at dksX5_goes_4 8 rfl rfl)
theorem dX5_goes_106 : decode cX5_goes 106 = .ok (.iload 5, 2) := dk_21 5 (dk_at dksX5_goes_4 11 rfl rfl)
theorem dX5_goes_108 : decode cX5_goes 108 = .ok (.iaload, 1) := dk_46 (dk_at dksX5_goes_4 13 rfl rfl)
theorem dX5_goes_109 : decode cX5_goes 109 = .ok (.ifCond .lt 29, 3) := dk_155 0 29 (dk_at dksX5_goes_4 14 rfl rfl)
theorem dX5_goes_112 : decode cX5_goes 112 = .ok (.aload_n 0, 1) := dk_42 (dk_at dksX5_goes_4 17 rfl rfl)
theorem dX5_goes_113 : decode cX5_goes 113 = .ok (.iload 6, 2) := dk_21 6 (dk_at dksX5_goes_4 18 rfl rfl)
theorem dX5_goes_115 : decode cX5_goes 115 = .ok (.iload_n 1, 1) := dk_27 (dk_at dksX5_goes_4 20 rfl rfl)
theorem dX5_goes_116 : decode cX5_goes 116 = .ok (.aload_n 0, 1) := dk_42 (dk_at dksX5_goes_4 21 rfl rfl)
theorem dX5_goes_117 : decode cX5_goes 117 = .ok (.getfield 31, 3) := dk_180 0 31 (dk_at dksX5_goes_5 0 rfl rfl)
theorem dX5_goes_120 : decode cX5_goes 120 = .ok (.iload_n 2, 1) := dk_28 (dk_at dksX5_goes_5 3 rfl rfl)
theorem dX5_goes_121 : decode cX5_goes 121 = .ok (.iaload, 1) := dk_46 (dk_at dksX5_goes_5 4 rfl rfl)
theorem dX5_goes_122 : decode cX5_goes 122 = .ok (.aload_n 0, 1) := dk_42 (dk_at dksX5_goes_5 5 rfl rfl)
theorem dX5_goes_123 : decode cX5_goes 123 = .ok (.getfield 49, 3) := dk_180 0 49 (dk_at dksX5_goes_5 6 rfl rfl)
theorem dX5_goes_126 : decode cX5_goes 126 = .ok (.iload 5, 2) := dk_21 5 (dk_at dksX5_goes_5 9 rfl rfl)
theorem dX5_goes_128 : decode cX5_goes 128 = .ok (.iaload, 1) := dk_46 (dk_at dksX5_goes_5 11 rfl rfl)
theorem dX5_goes_129 : decode cX5_goes 129 = .ok (.iload 5, 2) := dk_21 5 (dk_at dksX5_goes_5 12 rfl rfl)
theorem dX5_goes_131 : decode cX5_goes 131 = .ok (.invokevirtual 189, 3) := dk_182 0 189 (dk_at dksX5_goes_5 14 rfl rfl)
theorem dX5_goes_134 : decode cX5_goes 134 = .ok (.ifCond .ne 4, 3) := dk_154 0 4 (dk_at dksX5_goes_5 17 rfl rfl)
theorem dX5_goes_137 : decode cX5_goes 137 = .ok (.return_, 1) := dk_177 (dk_at dksX5_goes_5 20 rfl rfl)
theorem dX5_goes_138 : decode cX5_goes 138 = .ok (.aload_n 0, 1) := dk_42 (dk_at dksX5_goes_5 21 rfl rfl)
theorem dX5_goes_139 : decode cX5_goes 139 = .ok (.getfield 49, 3) := dk_180 0 49 (dk_at dksX5_goes_6 0 rfl rfl)
theorem dX5_goes_142 : decode cX5_goes 142 = .ok (.iload 5, 2) := dk_21 5 (dk_at dksX5_goes_6 3 rfl rfl)
theorem dX5_goes_144 : decode cX5_goes 144 = .ok (.iload 6, 2) := dk_21 6 (dk_at dksX5_goes_6 5 rfl rfl)
theorem dX5_goes_146 : decode cX5_goes 146 = .ok (.iastore, 1) := dk_79 (dk_at dksX5_goes_6 7 rfl rfl)
theorem dX5_goes_147 : decode cX5_goes 147 = .ok (.iconst 0, 1) := dk_3 (dk_at dksX5_goes_6 8 rfl rfl)
theorem dX5_goes_148 : decode cX5_goes 148 = .ok (.istore 7, 2) := dk_54 7 (dk_at dksX5_goes_6 9 rfl rfl)
theorem dX5_goes_150 : decode cX5_goes 150 = .ok (.iload 7, 2) := dk_21 7 (dk_at dksX5_goes_6 11 rfl rfl)
theorem dX5_goes_152 : decode cX5_goes 152 = .ok (.aload_n 0, 1) := dk_42 (dk_at dksX5_goes_6 13 rfl rfl)
theorem dX5_goes_153 : decode cX5_goes 153 = .ok (.getfield 52, 3) := dk_180 0 52 (dk_at dksX5_goes_6 14 rfl rfl)
theorem dX5_goes_156 : decode cX5_goes 156 = .ok (.iload_n 1, 1) := dk_27 (dk_at dksX5_goes_6 17 rfl rfl)
theorem dX5_goes_157 : decode cX5_goes 157 = .ok (.iaload, 1) := dk_46 (dk_at dksX5_goes_6 18 rfl rfl)
theorem dX5_goes_158 : decode cX5_goes 158 = .ok (.if_icmp .ge 36, 3) := dk_162 0 36 (dk_at dksX5_goes_6 19 rfl rfl)
theorem dX5_goes_161 : decode cX5_goes 161 = .ok (.aload_n 0, 1) := dk_42 (dk_at dksX5_goes_6 22 rfl rfl)
theorem dX5_goes_162 : decode cX5_goes 162 = .ok (.getfield 59, 3) := dk_180 0 59 (dk_at dksX5_goes_7 0 rfl rfl)
theorem dX5_goes_165 : decode cX5_goes 165 = .ok (.sipush 230, 3) := dk_17 0 230 (dk_at dksX5_goes_7 3 rfl rfl)
theorem dX5_goes_168 : decode cX5_goes 168 = .ok (.iload 5, 2) := dk_21 5 (dk_at dksX5_goes_7 6 rfl rfl)
theorem dX5_goes_170 : decode cX5_goes 170 = .ok (.imul, 1) := dk_104 (dk_at dksX5_goes_7 8 rfl rfl)
theorem dX5_goes_171 : decode cX5_goes 171 = .ok (.iload 7, 2) := dk_21 7 (dk_at dksX5_goes_7 9 rfl rfl)
theorem dX5_goes_173 : decode cX5_goes 173 = .ok (.iadd, 1) := dk_96 (dk_at dksX5_goes_7 11 rfl rfl)
theorem dX5_goes_174 : decode cX5_goes 174 = .ok (.aload_n 0, 1) := dk_42 (dk_at dksX5_goes_7 12 rfl rfl)
theorem dX5_goes_175 : decode cX5_goes 175 = .ok (.getfield 59, 3) := dk_180 0 59 (dk_at dksX5_goes_7 13 rfl rfl)
theorem dX5_goes_178 : decode cX5_goes 178 = .ok (.sipush 230, 3) := dk_17 0 230 (dk_at dksX5_goes_7 16 rfl rfl)
theorem dX5_goes_181 : decode cX5_goes 181 = .ok (.iload_n 1, 1) := dk_27 (dk_at dksX5_goes_7 19 rfl rfl)
theorem dX5_goes_182 : decode cX5_goes 182 = .ok (.imul, 1) := dk_104 (dk_at dksX5_goes_7 20 rfl rfl)
theorem dX5_goes_183 : decode cX5_goes 183 = .ok (.iload 7, 2) := dk_21 7 (dk_at dksX5_goes_7 21 rfl rfl)
theorem dX5_goes_185 : decode cX5_goes 185 = .ok (.iadd, 1) := dk_96 (dk_at dksX5_goes_7 23 rfl rfl)
theorem dX5_goes_186 : decode cX5_goes 186 = .ok (.iaload, 1) := dk_46 (dk_at dksX5_goes_8 0 rfl rfl)
theorem dX5_goes_187 : decode cX5_goes 187 = .ok (.iastore, 1) := dk_79 (dk_at dksX5_goes_8 1 rfl rfl)
theorem dX5_goes_188 : decode cX5_goes 188 = .ok (.iinc 7 1, 3) := dk_132 7 1 (dk_at dksX5_goes_8 2 rfl rfl)
theorem dX5_goes_191 : decode cX5_goes 191 = .ok (.goto (-41), 3) := dk_167 255 215 (dk_at dksX5_goes_8 5 rfl rfl)
theorem dX5_goes_194 : decode cX5_goes 194 = .ok (.aload_n 0, 1) := dk_42 (dk_at dksX5_goes_8 8 rfl rfl)
theorem dX5_goes_195 : decode cX5_goes 195 = .ok (.getfield 52, 3) := dk_180 0 52 (dk_at dksX5_goes_8 9 rfl rfl)
theorem dX5_goes_198 : decode cX5_goes 198 = .ok (.iload 5, 2) := dk_21 5 (dk_at dksX5_goes_8 12 rfl rfl)
theorem dX5_goes_200 : decode cX5_goes 200 = .ok (.aload_n 0, 1) := dk_42 (dk_at dksX5_goes_8 14 rfl rfl)
theorem dX5_goes_201 : decode cX5_goes 201 = .ok (.getfield 52, 3) := dk_180 0 52 (dk_at dksX5_goes_8 15 rfl rfl)
theorem dX5_goes_204 : decode cX5_goes 204 = .ok (.iload_n 1, 1) := dk_27 (dk_at dksX5_goes_8 18 rfl rfl)
theorem dX5_goes_205 : decode cX5_goes 205 = .ok (.iaload, 1) := dk_46 (dk_at dksX5_goes_8 19 rfl rfl)
theorem dX5_goes_206 : decode cX5_goes 206 = .ok (.iastore, 1) := dk_79 (dk_at dksX5_goes_8 20 rfl rfl)
theorem dX5_goes_207 : decode cX5_goes 207 = .ok (.aload_n 0, 1) := dk_42 (dk_at dksX5_goes_8 21 rfl rfl)
theorem dX5_goes_208 : decode cX5_goes 208 = .ok (.getfield 31, 3) := dk_180 0 31 (dk_at dksX5_goes_9 0 rfl rfl)
theorem dX5_goes_211 : decode cX5_goes 211 = .ok (.iload_n 2, 1) := dk_28 (dk_at dksX5_goes_9 3 rfl rfl)
theorem dX5_goes_212 : decode cX5_goes 212 = .ok (.iaload, 1) := dk_46 (dk_at dksX5_goes_9 4 rfl rfl)
theorem dX5_goes_213 : decode cX5_goes 213 = .ok (.iconst 4, 1) := dk_7 (dk_at dksX5_goes_9 5 rfl rfl)
theorem dX5_goes_214 : decode cX5_goes 214 = .ok (.if_icmp .ne 4, 3) := dk_160 0 4 (dk_at dksX5_goes_9 6 rfl rfl)
theorem dX5_goes_217 : decode cX5_goes 217 = .ok (.return_, 1) := dk_177 (dk_at dksX5_goes_9 9 rfl rfl)
theorem dX5_goes_218 : decode cX5_goes 218 = .ok (.aload_n 0, 1) := dk_42 (dk_at dksX5_goes_9 10 rfl rfl)
theorem dX5_goes_219 : decode cX5_goes 219 = .ok (.getfield 59, 3) := dk_180 0 59 (dk_at dksX5_goes_9 11 rfl rfl)
theorem dX5_goes_222 : decode cX5_goes 222 = .ok (.sipush 230, 3) := dk_17 0 230 (dk_at dksX5_goes_9 14 rfl rfl)
theorem dX5_goes_225 : decode cX5_goes 225 = .ok (.iload 5, 2) := dk_21 5 (dk_at dksX5_goes_9 17 rfl rfl)
theorem dX5_goes_227 : decode cX5_goes 227 = .ok (.imul, 1) := dk_104 (dk_at dksX5_goes_9 19 rfl rfl)
theorem dX5_goes_228 : decode cX5_goes 228 = .ok (.aload_n 0, 1) := dk_42 (dk_at dksX5_goes_9 20 rfl rfl)
theorem dX5_goes_229 : decode cX5_goes 229 = .ok (.getfield 52, 3) := dk_180 0 52 (dk_at dksX5_goes_9 21 rfl rfl)
theorem dX5_goes_232 : decode cX5_goes 232 = .ok (.iload 5, 2) := dk_21 5 (dk_at dksX5_goes_10 0 rfl rfl)
theorem dX5_goes_234 : decode cX5_goes 234 = .ok (.iaload, 1) := dk_46 (dk_at dksX5_goes_10 2 rfl rfl)
theorem dX5_goes_235 : decode cX5_goes 235 = .ok (.iadd, 1) := dk_96 (dk_at dksX5_goes_10 3 rfl rfl)
theorem dX5_goes_236 : decode cX5_goes 236 = .ok (.aload_n 0, 1) := dk_42 (dk_at dksX5_goes_10 4 rfl rfl)
theorem dX5_goes_237 : decode cX5_goes 237 = .ok (.getfield 31, 3) := dk_180 0 31 (dk_at dksX5_goes_10 5 rfl rfl)
theorem dX5_goes_240 : decode cX5_goes 240 = .ok (.iload_n 2, 1) := dk_28 (dk_at dksX5_goes_10 8 rfl rfl)
theorem dX5_goes_241 : decode cX5_goes 241 = .ok (.iaload, 1) := dk_46 (dk_at dksX5_goes_10 9 rfl rfl)
theorem dX5_goes_242 : decode cX5_goes 242 = .ok (.iastore, 1) := dk_79 (dk_at dksX5_goes_10 10 rfl rfl)
theorem dX5_goes_243 : decode cX5_goes 243 = .ok (.aload_n 0, 1) := dk_42 (dk_at dksX5_goes_10 11 rfl rfl)
theorem dX5_goes_244 : decode cX5_goes 244 = .ok (.getfield 52, 3) := dk_180 0 52 (dk_at dksX5_goes_10 12 rfl rfl)
theorem dX5_goes_247 : decode cX5_goes 247 = .ok (.iload 5, 2) := dk_21 5 (dk_at dksX5_goes_10 15 rfl rfl)
theorem dX5_goes_249 : decode cX5_goes 249 = .ok (.dup2, 1) := dk_92 (dk_at dksX5_goes_10 17 rfl rfl)
theorem dX5_goes_250 : decode cX5_goes 250 = .ok (.iaload, 1) := dk_46 (dk_at dksX5_goes_10 18 rfl rfl)
theorem dX5_goes_251 : decode cX5_goes 251 = .ok (.iconst 1, 1) := dk_4 (dk_at dksX5_goes_10 19 rfl rfl)
theorem dX5_goes_252 : decode cX5_goes 252 = .ok (.iadd, 1) := dk_96 (dk_at dksX5_goes_10 20 rfl rfl)
theorem dX5_goes_253 : decode cX5_goes 253 = .ok (.iastore, 1) := dk_79 (dk_at dksX5_goes_10 21 rfl rfl)
theorem dX5_goes_254 : decode cX5_goes 254 = .ok (.return_, 1) := dk_177 (dk_at dksX5_goes_10 22 rfl rfl)
abbrev cX5_sing : ByteArray := prog_19_method_46_code
def yX5_sing : MethodName := ⟨RX5, "sing", "(I)I"⟩
def dkwX5_sing_1 : List UInt8 := [182, 0, 170, 42, 182, 0, 217, 153, 0, 10, 42, 182, 0, 220, 167, 0, 5, 16, 241, 172]
abbrev dktX5_sing_1 : List UInt8 := dkwX5_sing_1 ++ []
def dkwX5_sing_0 : List UInt8 := [27, 184, 0, 99, 154, 0, 6, 16, 245, 172, 42, 182, 0, 213, 154, 0, 6, 16, 244, 172, 42, 27]
abbrev dktX5_sing_0 : List UInt8 := dkwX5_sing_0 ++ dktX5_sing_1
theorem dksX5_sing_0 : cX5_sing.data.toList.drop 0 = dktX5_sing_0 := by decide +kernel
theorem dksX5_sing_1 : cX5_sing.data.toList.drop 22 = dktX5_sing_1 := dk_seg dksX5_sing_0 22 rfl rfl
theorem dX5_sing_0 : decode cX5_sing 0 = .ok (.iload_n 1, 1) := dk_27 (dk_at dksX5_sing_0 0 rfl rfl)
theorem dX5_sing_1 : decode cX5_sing 1 = .ok (.invokestatic 99, 3) := dk_184 0 99 (dk_at dksX5_sing_0 1 rfl rfl)
theorem dX5_sing_4 : decode cX5_sing 4 = .ok (.ifCond .ne 6, 3) := dk_154 0 6 (dk_at dksX5_sing_0 4 rfl rfl)
theorem dX5_sing_7 : decode cX5_sing 7 = .ok (.bipush (-11), 2) := dk_16 245 (dk_at dksX5_sing_0 7 rfl rfl)
theorem dX5_sing_9 : decode cX5_sing 9 = .ok (.ireturn, 1) := dk_172 (dk_at dksX5_sing_0 9 rfl rfl)
theorem dX5_sing_10 : decode cX5_sing 10 = .ok (.aload_n 0, 1) := dk_42 (dk_at dksX5_sing_0 10 rfl rfl)
theorem dX5_sing_11 : decode cX5_sing 11 = .ok (.invokevirtual 213, 3) := dk_182 0 213 (dk_at dksX5_sing_0 11 rfl rfl)
theorem dX5_sing_14 : decode cX5_sing 14 = .ok (.ifCond .ne 6, 3) := dk_154 0 6 (dk_at dksX5_sing_0 14 rfl rfl)
theorem dX5_sing_17 : decode cX5_sing 17 = .ok (.bipush (-12), 2) := dk_16 244 (dk_at dksX5_sing_0 17 rfl rfl)
theorem dX5_sing_19 : decode cX5_sing 19 = .ok (.ireturn, 1) := dk_172 (dk_at dksX5_sing_0 19 rfl rfl)
theorem dX5_sing_20 : decode cX5_sing 20 = .ok (.aload_n 0, 1) := dk_42 (dk_at dksX5_sing_0 20 rfl rfl)
theorem dX5_sing_21 : decode cX5_sing 21 = .ok (.iload_n 1, 1) := dk_27 (dk_at dksX5_sing_0 21 rfl rfl)
theorem dX5_sing_22 : decode cX5_sing 22 = .ok (.invokevirtual 170, 3) := dk_182 0 170 (dk_at dksX5_sing_1 0 rfl rfl)
theorem dX5_sing_25 : decode cX5_sing 25 = .ok (.aload_n 0, 1) := dk_42 (dk_at dksX5_sing_1 3 rfl rfl)
theorem dX5_sing_26 : decode cX5_sing 26 = .ok (.invokevirtual 217, 3) := dk_182 0 217 (dk_at dksX5_sing_1 4 rfl rfl)
theorem dX5_sing_29 : decode cX5_sing 29 = .ok (.ifCond .eq 10, 3) := dk_153 0 10 (dk_at dksX5_sing_1 7 rfl rfl)
theorem dX5_sing_32 : decode cX5_sing 32 = .ok (.aload_n 0, 1) := dk_42 (dk_at dksX5_sing_1 10 rfl rfl)
theorem dX5_sing_33 : decode cX5_sing 33 = .ok (.invokevirtual 220, 3) := dk_182 0 220 (dk_at dksX5_sing_1 11 rfl rfl)
theorem dX5_sing_36 : decode cX5_sing 36 = .ok (.goto 5, 3) := dk_167 0 5 (dk_at dksX5_sing_1 14 rfl rfl)
theorem dX5_sing_39 : decode cX5_sing 39 = .ok (.bipush (-15), 2) := dk_16 241 (dk_at dksX5_sing_1 17 rfl rfl)
theorem dX5_sing_41 : decode cX5_sing 41 = .ok (.ireturn, 1) := dk_172 (dk_at dksX5_sing_1 19 rfl rfl)
abbrev cX5_songs : ByteArray := prog_19_method_44_code
def yX5_songs : MethodName := ⟨RX5, "songs", "()I"⟩
def dkwX5_songs_2 : List UInt8 := [42, 180, 0, 207, 172]
abbrev dktX5_songs_2 : List UInt8 := dkwX5_songs_2 ++ []
def dkwX5_songs_1 : List UInt8 := [180, 0, 59, 17, 0, 230, 42, 180, 0, 193, 104, 27, 96, 46, 96, 182, 0, 210, 132, 1, 1, 167, 255, 218]
abbrev dktX5_songs_1 : List UInt8 := dkwX5_songs_1 ++ dktX5_songs_2
def dkwX5_songs_0 : List UInt8 := [42, 3, 181, 0, 207, 3, 60, 27, 42, 180, 0, 52, 42, 180, 0, 193, 46, 162, 0, 31, 42, 16, 97, 42]
abbrev dktX5_songs_0 : List UInt8 := dkwX5_songs_0 ++ dktX5_songs_1
theorem dksX5_songs_0 : cX5_songs.data.toList.drop 0 = dktX5_songs_0 := by decide +kernel
theorem dksX5_songs_1 : cX5_songs.data.toList.drop 24 = dktX5_songs_1 := dk_seg dksX5_songs_0 24 rfl rfl
theorem dksX5_songs_2 : cX5_songs.data.toList.drop 48 = dktX5_songs_2 := dk_seg dksX5_songs_1 24 rfl rfl
theorem dX5_songs_0 : decode cX5_songs 0 = .ok (.aload_n 0, 1) := dk_42 (dk_at dksX5_songs_0 0 rfl rfl)
theorem dX5_songs_1 : decode cX5_songs 1 = .ok (.iconst 0, 1) := dk_3 (dk_at dksX5_songs_0 1 rfl rfl)
theorem dX5_songs_2 : decode cX5_songs 2 = .ok (.putfield 207, 3) := dk_181 0 207 (dk_at dksX5_songs_0 2 rfl rfl)
theorem dX5_songs_5 : decode cX5_songs 5 = .ok (.iconst 0, 1) := dk_3 (dk_at dksX5_songs_0 5 rfl rfl)
theorem dX5_songs_6 : decode cX5_songs 6 = .ok (.istore_n 1, 1) := dk_60 (dk_at dksX5_songs_0 6 rfl rfl)
theorem dX5_songs_7 : decode cX5_songs 7 = .ok (.iload_n 1, 1) := dk_27 (dk_at dksX5_songs_0 7 rfl rfl)
theorem dX5_songs_8 : decode cX5_songs 8 = .ok (.aload_n 0, 1) := dk_42 (dk_at dksX5_songs_0 8 rfl rfl)
theorem dX5_songs_9 : decode cX5_songs 9 = .ok (.getfield 52, 3) := dk_180 0 52 (dk_at dksX5_songs_0 9 rfl rfl)
theorem dX5_songs_12 : decode cX5_songs 12 = .ok (.aload_n 0, 1) := dk_42 (dk_at dksX5_songs_0 12 rfl rfl)
theorem dX5_songs_13 : decode cX5_songs 13 = .ok (.getfield 193, 3) := dk_180 0 193 (dk_at dksX5_songs_0 13 rfl rfl)
theorem dX5_songs_16 : decode cX5_songs 16 = .ok (.iaload, 1) := dk_46 (dk_at dksX5_songs_0 16 rfl rfl)
theorem dX5_songs_17 : decode cX5_songs 17 = .ok (.if_icmp .ge 31, 3) := dk_162 0 31 (dk_at dksX5_songs_0 17 rfl rfl)
theorem dX5_songs_20 : decode cX5_songs 20 = .ok (.aload_n 0, 1) := dk_42 (dk_at dksX5_songs_0 20 rfl rfl)
theorem dX5_songs_21 : decode cX5_songs 21 = .ok (.bipush 97, 2) := dk_16 97 (dk_at dksX5_songs_0 21 rfl rfl)
theorem dX5_songs_23 : decode cX5_songs 23 = .ok (.aload_n 0, 1) := dk_42 (dk_at dksX5_songs_0 23 rfl rfl)
theorem dX5_songs_24 : decode cX5_songs 24 = .ok (.getfield 59, 3) := dk_180 0 59 (dk_at dksX5_songs_1 0 rfl rfl)
theorem dX5_songs_27 : decode cX5_songs 27 = .ok (.sipush 230, 3) := dk_17 0 230 (dk_at dksX5_songs_1 3 rfl rfl)
theorem dX5_songs_30 : decode cX5_songs 30 = .ok (.aload_n 0, 1) := dk_42 (dk_at dksX5_songs_1 6 rfl rfl)
theorem dX5_songs_31 : decode cX5_songs 31 = .ok (.getfield 193, 3) := dk_180 0 193 (dk_at dksX5_songs_1 7 rfl rfl)
theorem dX5_songs_34 : decode cX5_songs 34 = .ok (.imul, 1) := dk_104 (dk_at dksX5_songs_1 10 rfl rfl)
theorem dX5_songs_35 : decode cX5_songs 35 = .ok (.iload_n 1, 1) := dk_27 (dk_at dksX5_songs_1 11 rfl rfl)
theorem dX5_songs_36 : decode cX5_songs 36 = .ok (.iadd, 1) := dk_96 (dk_at dksX5_songs_1 12 rfl rfl)
theorem dX5_songs_37 : decode cX5_songs 37 = .ok (.iaload, 1) := dk_46 (dk_at dksX5_songs_1 13 rfl rfl)
theorem dX5_songs_38 : decode cX5_songs 38 = .ok (.iadd, 1) := dk_96 (dk_at dksX5_songs_1 14 rfl rfl)
theorem dX5_songs_39 : decode cX5_songs 39 = .ok (.invokevirtual 210, 3) := dk_182 0 210 (dk_at dksX5_songs_1 15 rfl rfl)
theorem dX5_songs_42 : decode cX5_songs 42 = .ok (.iinc 1 1, 3) := dk_132 1 1 (dk_at dksX5_songs_1 18 rfl rfl)
theorem dX5_songs_45 : decode cX5_songs 45 = .ok (.goto (-38), 3) := dk_167 255 218 (dk_at dksX5_songs_1 21 rfl rfl)
theorem dX5_songs_48 : decode cX5_songs 48 = .ok (.aload_n 0, 1) := dk_42 (dk_at dksX5_songs_2 0 rfl rfl)
theorem dX5_songs_49 : decode cX5_songs 49 = .ok (.getfield 207, 3) := dk_180 0 207 (dk_at dksX5_songs_2 1 rfl rfl)
theorem dX5_songs_52 : decode cX5_songs 52 = .ok (.ireturn, 1) := dk_172 (dk_at dksX5_songs_2 4 rfl rfl)
abbrev cX5_writes : ByteArray := prog_19_method_43_code
def yX5_writes : MethodName := ⟨RX5, "writes", "(I)V"⟩
def dkwX5_writes_0 : List UInt8 := [42, 180, 0, 62, 42, 180, 0, 207, 27, 79, 42, 89, 180, 0, 207, 4, 96, 181, 0, 207, 177]
abbrev dktX5_writes_0 : List UInt8 := dkwX5_writes_0 ++ []
theorem dksX5_writes_0 : cX5_writes.data.toList.drop 0 = dktX5_writes_0 := by decide +kernel
theorem dX5_writes_0 : decode cX5_writes 0 = .ok (.aload_n 0, 1) := dk_42 (dk_at dksX5_writes_0 0 rfl rfl)
theorem dX5_writes_1 : decode cX5_writes 1 = .ok (.getfield 62, 3) := dk_180 0 62 (dk_at dksX5_writes_0 1 rfl rfl)
theorem dX5_writes_4 : decode cX5_writes 4 = .ok (.aload_n 0, 1) := dk_42 (dk_at dksX5_writes_0 4 rfl rfl)
theorem dX5_writes_5 : decode cX5_writes 5 = .ok (.getfield 207, 3) := dk_180 0 207 (dk_at dksX5_writes_0 5 rfl rfl)
theorem dX5_writes_8 : decode cX5_writes 8 = .ok (.iload_n 1, 1) := dk_27 (dk_at dksX5_writes_0 8 rfl rfl)
theorem dX5_writes_9 : decode cX5_writes 9 = .ok (.iastore, 1) := dk_79 (dk_at dksX5_writes_0 9 rfl rfl)
theorem dX5_writes_10 : decode cX5_writes 10 = .ok (.aload_n 0, 1) := dk_42 (dk_at dksX5_writes_0 10 rfl rfl)
theorem dX5_writes_11 : decode cX5_writes 11 = .ok (.dup, 1) := dk_89 (dk_at dksX5_writes_0 11 rfl rfl)
theorem dX5_writes_12 : decode cX5_writes 12 = .ok (.getfield 207, 3) := dk_180 0 207 (dk_at dksX5_writes_0 12 rfl rfl)
theorem dX5_writes_15 : decode cX5_writes 15 = .ok (.iconst 1, 1) := dk_4 (dk_at dksX5_writes_0 15 rfl rfl)
theorem dX5_writes_16 : decode cX5_writes 16 = .ok (.iadd, 1) := dk_96 (dk_at dksX5_writes_0 16 rfl rfl)
theorem dX5_writes_17 : decode cX5_writes 17 = .ok (.putfield 207, 3) := dk_181 0 207 (dk_at dksX5_writes_0 17 rfl rfl)
theorem dX5_writes_20 : decode cX5_writes 20 = .ok (.return_, 1) := dk_177 (dk_at dksX5_writes_0 20 rfl rfl)
abbrev cX5_both : ByteArray := prog_19_method_47_code
def yX5_both : MethodName := ⟨RX5, "both", "()I"⟩
def dkwX5_both_1 : List UInt8 := [180, 0, 200, 167, 0, 5, 16, 241, 172]
abbrev dktX5_both_1 : List UInt8 := dkwX5_both_1 ++ []
def dkwX5_both_0 : List UInt8 := [42, 182, 0, 213, 154, 0, 6, 16, 244, 172, 42, 182, 0, 223, 42, 182, 0, 217, 153, 0, 10, 42]
abbrev dktX5_both_0 : List UInt8 := dkwX5_both_0 ++ dktX5_both_1
theorem dksX5_both_0 : cX5_both.data.toList.drop 0 = dktX5_both_0 := by decide +kernel
theorem dksX5_both_1 : cX5_both.data.toList.drop 22 = dktX5_both_1 := dk_seg dksX5_both_0 22 rfl rfl
theorem dX5_both_0 : decode cX5_both 0 = .ok (.aload_n 0, 1) := dk_42 (dk_at dksX5_both_0 0 rfl rfl)
theorem dX5_both_1 : decode cX5_both 1 = .ok (.invokevirtual 213, 3) := dk_182 0 213 (dk_at dksX5_both_0 1 rfl rfl)
theorem dX5_both_4 : decode cX5_both 4 = .ok (.ifCond .ne 6, 3) := dk_154 0 6 (dk_at dksX5_both_0 4 rfl rfl)
theorem dX5_both_7 : decode cX5_both 7 = .ok (.bipush (-12), 2) := dk_16 244 (dk_at dksX5_both_0 7 rfl rfl)
theorem dX5_both_9 : decode cX5_both 9 = .ok (.ireturn, 1) := dk_172 (dk_at dksX5_both_0 9 rfl rfl)
theorem dX5_both_10 : decode cX5_both 10 = .ok (.aload_n 0, 1) := dk_42 (dk_at dksX5_both_0 10 rfl rfl)
theorem dX5_both_11 : decode cX5_both 11 = .ok (.invokevirtual 223, 3) := dk_182 0 223 (dk_at dksX5_both_0 11 rfl rfl)
theorem dX5_both_14 : decode cX5_both 14 = .ok (.aload_n 0, 1) := dk_42 (dk_at dksX5_both_0 14 rfl rfl)
theorem dX5_both_15 : decode cX5_both 15 = .ok (.invokevirtual 217, 3) := dk_182 0 217 (dk_at dksX5_both_0 15 rfl rfl)
theorem dX5_both_18 : decode cX5_both 18 = .ok (.ifCond .eq 10, 3) := dk_153 0 10 (dk_at dksX5_both_0 18 rfl rfl)
theorem dX5_both_21 : decode cX5_both 21 = .ok (.aload_n 0, 1) := dk_42 (dk_at dksX5_both_0 21 rfl rfl)
theorem dX5_both_22 : decode cX5_both 22 = .ok (.getfield 200, 3) := dk_180 0 200 (dk_at dksX5_both_1 0 rfl rfl)
theorem dX5_both_25 : decode cX5_both 25 = .ok (.goto 5, 3) := dk_167 0 5 (dk_at dksX5_both_1 3 rfl rfl)
theorem dX5_both_28 : decode cX5_both 28 = .ok (.bipush (-15), 2) := dk_16 241 (dk_at dksX5_both_1 6 rfl rfl)
theorem dX5_both_30 : decode cX5_both 30 = .ok (.ireturn, 1) := dk_172 (dk_at dksX5_both_1 8 rfl rfl)
abbrev cX5_laysBoth : ByteArray := prog_19_method_32_code
def yX5_laysBoth : MethodName := ⟨RX5, "laysBoth", "()V"⟩
def dkwX5_laysBoth_10 : List UInt8 := [184, 0, 130, 46, 182, 0, 159, 132, 2, 1, 167, 255, 186, 132, 1, 1, 167, 255, 150, 177]
abbrev dktX5_laysBoth_10 : List UInt8 := dkwX5_laysBoth_10 ++ []
def dkwX5_laysBoth_9 : List UInt8 := [184, 0, 163, 7, 42, 180, 0, 7, 4, 27, 6, 184, 0, 130, 46, 42, 180, 0, 7, 4, 27, 7]
abbrev dktX5_laysBoth_9 : List UInt8 := dkwX5_laysBoth_9 ++ dktX5_laysBoth_10
def dkwX5_laysBoth_8 : List UInt8 := [4, 27, 3, 184, 0, 130, 46, 184, 0, 163, 28, 42, 180, 0, 7, 4, 27, 4, 184, 0, 130, 46]
abbrev dktX5_laysBoth_8 : List UInt8 := dkwX5_laysBoth_8 ++ dktX5_laysBoth_9
def dkwX5_laysBoth_7 : List UInt8 := [159, 0, 6, 167, 0, 78, 3, 61, 28, 42, 180, 0, 7, 3, 46, 162, 0, 66, 42, 28, 42, 180, 0, 7]
abbrev dktX5_laysBoth_7 : List UInt8 := dkwX5_laysBoth_7 ++ dktX5_laysBoth_8
def dkwX5_laysBoth_6 : List UInt8 := [60, 27, 42, 180, 0, 7, 6, 46, 162, 0, 102, 42, 180, 0, 7, 4, 27, 5, 184, 0, 130, 46, 7]
abbrev dktX5_laysBoth_6 : List UInt8 := dkwX5_laysBoth_6 ++ dktX5_laysBoth_7
def dkwX5_laysBoth_5 : List UInt8 := [3, 60, 27, 42, 180, 0, 7, 5, 46, 162, 0, 14, 42, 27, 182, 0, 166, 132, 1, 1, 167, 255, 238, 3]
abbrev dktX5_laysBoth_5 : List UInt8 := dkwX5_laysBoth_5 ++ dktX5_laysBoth_6
def dkwX5_laysBoth_4 : List UInt8 := [156, 0, 7, 2, 167, 0, 7, 29, 21, 4, 96, 79, 132, 2, 1, 167, 255, 170, 132, 1, 1, 167, 255, 157]
abbrev dktX5_laysBoth_4 : List UInt8 := dkwX5_laysBoth_4 ++ dktX5_laysBoth_5
def dkwX5_laysBoth_3 : List UInt8 := [46, 167, 0, 4, 2, 54, 4, 42, 180, 0, 37, 27, 28, 184, 0, 163, 29, 155, 0, 8, 21, 4]
abbrev dktX5_laysBoth_3 : List UInt8 := dkwX5_laysBoth_3 ++ dktX5_laysBoth_4
def dkwX5_laysBoth_2 : List UInt8 := [167, 0, 4, 2, 62, 28, 42, 180, 0, 7, 4, 46, 162, 0, 16, 42, 180, 0, 7, 4, 28, 184, 0, 107]
abbrev dktX5_laysBoth_2 : List UInt8 := dkwX5_laysBoth_2 ++ dktX5_laysBoth_3
def dkwX5_laysBoth_1 : List UInt8 := [162, 0, 87, 27, 42, 180, 0, 7, 3, 46, 162, 0, 16, 42, 180, 0, 7, 3, 27, 184, 0, 107, 46]
abbrev dktX5_laysBoth_1 : List UInt8 := dkwX5_laysBoth_1 ++ dktX5_laysBoth_2
def dkwX5_laysBoth_0 : List UInt8 := [42, 3, 181, 0, 153, 42, 16, 25, 181, 0, 156, 3, 60, 27, 8, 162, 0, 100, 3, 61, 28, 8]
abbrev dktX5_laysBoth_0 : List UInt8 := dkwX5_laysBoth_0 ++ dktX5_laysBoth_1
theorem dksX5_laysBoth_0 : cX5_laysBoth.data.toList.drop 0 = dktX5_laysBoth_0 := by decide +kernel
theorem dksX5_laysBoth_1 : cX5_laysBoth.data.toList.drop 22 = dktX5_laysBoth_1 := dk_seg dksX5_laysBoth_0 22 rfl rfl
theorem dksX5_laysBoth_2 : cX5_laysBoth.data.toList.drop 45 = dktX5_laysBoth_2 := dk_seg dksX5_laysBoth_1 23 rfl rfl
theorem dksX5_laysBoth_3 : cX5_laysBoth.data.toList.drop 69 = dktX5_laysBoth_3 := dk_seg dksX5_laysBoth_2 24 rfl rfl
theorem dksX5_laysBoth_4 : cX5_laysBoth.data.toList.drop 91 = dktX5_laysBoth_4 := dk_seg dksX5_laysBoth_3 22 rfl rfl
theorem dksX5_laysBoth_5 : cX5_laysBoth.data.toList.drop 115 = dktX5_laysBoth_5 := dk_seg dksX5_laysBoth_4 24 rfl rfl
theorem dksX5_laysBoth_6 : cX5_laysBoth.data.toList.drop 139 = dktX5_laysBoth_6 := dk_seg dksX5_laysBoth_5 24 rfl rfl
theorem dksX5_laysBoth_7 : cX5_laysBoth.data.toList.drop 162 = dktX5_laysBoth_7 := dk_seg dksX5_laysBoth_6 23 rfl rfl
theorem dksX5_laysBoth_8 : cX5_laysBoth.data.toList.drop 186 = dktX5_laysBoth_8 := dk_seg dksX5_laysBoth_7 24 rfl rfl
theorem dksX5_laysBoth_9 : cX5_laysBoth.data.toList.drop 208 = dktX5_laysBoth_9 := dk_seg dksX5_laysBoth_8 22 rfl rfl
theorem dksX5_laysBoth_10 : cX5_laysBoth.data.toList.drop 230 = dktX5_laysBoth_10 := dk_seg dksX5_laysBoth_9 22 rfl rfl
theorem dX5_laysBoth_0 : decode cX5_laysBoth 0 = .ok (.aload_n 0, 1) := dk_42 (dk_at dksX5_laysBoth_0 0 rfl rfl)
theorem dX5_laysBoth_1 : decode cX5_laysBoth 1 = .ok (.iconst 0, 1) := dk_3 (dk_at dksX5_laysBoth_0 1 rfl rfl)
theorem dX5_laysBoth_2 : decode cX5_laysBoth 2 = .ok (.putfield 153, 3) := dk_181 0 153 (dk_at dksX5_laysBoth_0 2 rfl rfl)
theorem dX5_laysBoth_5 : decode cX5_laysBoth 5 = .ok (.aload_n 0, 1) := dk_42 (dk_at dksX5_laysBoth_0 5 rfl rfl)
theorem dX5_laysBoth_6 : decode cX5_laysBoth 6 = .ok (.bipush 25, 2) := dk_16 25 (dk_at dksX5_laysBoth_0 6 rfl rfl)
theorem dX5_laysBoth_8 : decode cX5_laysBoth 8 = .ok (.putfield 156, 3) := dk_181 0 156 (dk_at dksX5_laysBoth_0 8 rfl rfl)
theorem dX5_laysBoth_11 : decode cX5_laysBoth 11 = .ok (.iconst 0, 1) := dk_3 (dk_at dksX5_laysBoth_0 11 rfl rfl)
theorem dX5_laysBoth_12 : decode cX5_laysBoth 12 = .ok (.istore_n 1, 1) := dk_60 (dk_at dksX5_laysBoth_0 12 rfl rfl)
theorem dX5_laysBoth_13 : decode cX5_laysBoth 13 = .ok (.iload_n 1, 1) := dk_27 (dk_at dksX5_laysBoth_0 13 rfl rfl)
theorem dX5_laysBoth_14 : decode cX5_laysBoth 14 = .ok (.iconst 5, 1) := dk_8 (dk_at dksX5_laysBoth_0 14 rfl rfl)
theorem dX5_laysBoth_15 : decode cX5_laysBoth 15 = .ok (.if_icmp .ge 100, 3) := dk_162 0 100 (dk_at dksX5_laysBoth_0 15 rfl rfl)
theorem dX5_laysBoth_18 : decode cX5_laysBoth 18 = .ok (.iconst 0, 1) := dk_3 (dk_at dksX5_laysBoth_0 18 rfl rfl)
theorem dX5_laysBoth_19 : decode cX5_laysBoth 19 = .ok (.istore_n 2, 1) := dk_61 (dk_at dksX5_laysBoth_0 19 rfl rfl)
theorem dX5_laysBoth_20 : decode cX5_laysBoth 20 = .ok (.iload_n 2, 1) := dk_28 (dk_at dksX5_laysBoth_0 20 rfl rfl)
theorem dX5_laysBoth_21 : decode cX5_laysBoth 21 = .ok (.iconst 5, 1) := dk_8 (dk_at dksX5_laysBoth_0 21 rfl rfl)
theorem dX5_laysBoth_22 : decode cX5_laysBoth 22 = .ok (.if_icmp .ge 87, 3) := dk_162 0 87 (dk_at dksX5_laysBoth_1 0 rfl rfl)
theorem dX5_laysBoth_25 : decode cX5_laysBoth 25 = .ok (.iload_n 1, 1) := dk_27 (dk_at dksX5_laysBoth_1 3 rfl rfl)
theorem dX5_laysBoth_26 : decode cX5_laysBoth 26 = .ok (.aload_n 0, 1) := dk_42 (dk_at dksX5_laysBoth_1 4 rfl rfl)
theorem dX5_laysBoth_27 : decode cX5_laysBoth 27 = .ok (.getfield 7, 3) := dk_180 0 7 (dk_at dksX5_laysBoth_1 5 rfl rfl)
theorem dX5_laysBoth_30 : decode cX5_laysBoth 30 = .ok (.iconst 0, 1) := dk_3 (dk_at dksX5_laysBoth_1 8 rfl rfl)
theorem dX5_laysBoth_31 : decode cX5_laysBoth 31 = .ok (.iaload, 1) := dk_46 (dk_at dksX5_laysBoth_1 9 rfl rfl)
theorem dX5_laysBoth_32 : decode cX5_laysBoth 32 = .ok (.if_icmp .ge 16, 3) := dk_162 0 16 (dk_at dksX5_laysBoth_1 10 rfl rfl)
theorem dX5_laysBoth_35 : decode cX5_laysBoth 35 = .ok (.aload_n 0, 1) := dk_42 (dk_at dksX5_laysBoth_1 13 rfl rfl)
theorem dX5_laysBoth_36 : decode cX5_laysBoth 36 = .ok (.getfield 7, 3) := dk_180 0 7 (dk_at dksX5_laysBoth_1 14 rfl rfl)
theorem dX5_laysBoth_39 : decode cX5_laysBoth 39 = .ok (.iconst 0, 1) := dk_3 (dk_at dksX5_laysBoth_1 17 rfl rfl)
theorem dX5_laysBoth_40 : decode cX5_laysBoth 40 = .ok (.iload_n 1, 1) := dk_27 (dk_at dksX5_laysBoth_1 18 rfl rfl)
theorem dX5_laysBoth_41 : decode cX5_laysBoth 41 = .ok (.invokestatic 107, 3) := dk_184 0 107 (dk_at dksX5_laysBoth_1 19 rfl rfl)
theorem dX5_laysBoth_44 : decode cX5_laysBoth 44 = .ok (.iaload, 1) := dk_46 (dk_at dksX5_laysBoth_1 22 rfl rfl)
theorem dX5_laysBoth_45 : decode cX5_laysBoth 45 = .ok (.goto 4, 3) := dk_167 0 4 (dk_at dksX5_laysBoth_2 0 rfl rfl)
theorem dX5_laysBoth_48 : decode cX5_laysBoth 48 = .ok (.iconst (-1), 1) := dk_2 (dk_at dksX5_laysBoth_2 3 rfl rfl)
theorem dX5_laysBoth_49 : decode cX5_laysBoth 49 = .ok (.istore_n 3, 1) := dk_62 (dk_at dksX5_laysBoth_2 4 rfl rfl)
theorem dX5_laysBoth_50 : decode cX5_laysBoth 50 = .ok (.iload_n 2, 1) := dk_28 (dk_at dksX5_laysBoth_2 5 rfl rfl)
theorem dX5_laysBoth_51 : decode cX5_laysBoth 51 = .ok (.aload_n 0, 1) := dk_42 (dk_at dksX5_laysBoth_2 6 rfl rfl)
theorem dX5_laysBoth_52 : decode cX5_laysBoth 52 = .ok (.getfield 7, 3) := dk_180 0 7 (dk_at dksX5_laysBoth_2 7 rfl rfl)
theorem dX5_laysBoth_55 : decode cX5_laysBoth 55 = .ok (.iconst 1, 1) := dk_4 (dk_at dksX5_laysBoth_2 10 rfl rfl)
theorem dX5_laysBoth_56 : decode cX5_laysBoth 56 = .ok (.iaload, 1) := dk_46 (dk_at dksX5_laysBoth_2 11 rfl rfl)
theorem dX5_laysBoth_57 : decode cX5_laysBoth 57 = .ok (.if_icmp .ge 16, 3) := dk_162 0 16 (dk_at dksX5_laysBoth_2 12 rfl rfl)
theorem dX5_laysBoth_60 : decode cX5_laysBoth 60 = .ok (.aload_n 0, 1) := dk_42 (dk_at dksX5_laysBoth_2 15 rfl rfl)
theorem dX5_laysBoth_61 : decode cX5_laysBoth 61 = .ok (.getfield 7, 3) := dk_180 0 7 (dk_at dksX5_laysBoth_2 16 rfl rfl)
theorem dX5_laysBoth_64 : decode cX5_laysBoth 64 = .ok (.iconst 1, 1) := dk_4 (dk_at dksX5_laysBoth_2 19 rfl rfl)
theorem dX5_laysBoth_65 : decode cX5_laysBoth 65 = .ok (.iload_n 2, 1) := dk_28 (dk_at dksX5_laysBoth_2 20 rfl rfl)
theorem dX5_laysBoth_66 : decode cX5_laysBoth 66 = .ok (.invokestatic 107, 3) := dk_184 0 107 (dk_at dksX5_laysBoth_2 21 rfl rfl)
theorem dX5_laysBoth_69 : decode cX5_laysBoth 69 = .ok (.iaload, 1) := dk_46 (dk_at dksX5_laysBoth_3 0 rfl rfl)
theorem dX5_laysBoth_70 : decode cX5_laysBoth 70 = .ok (.goto 4, 3) := dk_167 0 4 (dk_at dksX5_laysBoth_3 1 rfl rfl)
theorem dX5_laysBoth_73 : decode cX5_laysBoth 73 = .ok (.iconst (-1), 1) := dk_2 (dk_at dksX5_laysBoth_3 4 rfl rfl)
theorem dX5_laysBoth_74 : decode cX5_laysBoth 74 = .ok (.istore 4, 2) := dk_54 4 (dk_at dksX5_laysBoth_3 5 rfl rfl)
theorem dX5_laysBoth_76 : decode cX5_laysBoth 76 = .ok (.aload_n 0, 1) := dk_42 (dk_at dksX5_laysBoth_3 7 rfl rfl)
theorem dX5_laysBoth_77 : decode cX5_laysBoth 77 = .ok (.getfield 37, 3) := dk_180 0 37 (dk_at dksX5_laysBoth_3 8 rfl rfl)
theorem dX5_laysBoth_80 : decode cX5_laysBoth 80 = .ok (.iload_n 1, 1) := dk_27 (dk_at dksX5_laysBoth_3 11 rfl rfl)
theorem dX5_laysBoth_81 : decode cX5_laysBoth 81 = .ok (.iload_n 2, 1) := dk_28 (dk_at dksX5_laysBoth_3 12 rfl rfl)
theorem dX5_laysBoth_82 : decode cX5_laysBoth 82 = .ok (.invokestatic 163, 3) := dk_184 0 163 (dk_at dksX5_laysBoth_3 13 rfl rfl)
theorem dX5_laysBoth_85 : decode cX5_laysBoth 85 = .ok (.iload_n 3, 1) := dk_29 (dk_at dksX5_laysBoth_3 16 rfl rfl)
theorem dX5_laysBoth_86 : decode cX5_laysBoth 86 = .ok (.ifCond .lt 8, 3) := dk_155 0 8 (dk_at dksX5_laysBoth_3 17 rfl rfl)
theorem dX5_laysBoth_89 : decode cX5_laysBoth 89 = .ok (.iload 4, 2) := dk_21 4 (dk_at dksX5_laysBoth_3 20 rfl rfl)
theorem dX5_laysBoth_91 : decode cX5_laysBoth 91 = .ok (.ifCond .ge 7, 3) := dk_156 0 7 (dk_at dksX5_laysBoth_4 0 rfl rfl)
theorem dX5_laysBoth_94 : decode cX5_laysBoth 94 = .ok (.iconst (-1), 1) := dk_2 (dk_at dksX5_laysBoth_4 3 rfl rfl)
theorem dX5_laysBoth_95 : decode cX5_laysBoth 95 = .ok (.goto 7, 3) := dk_167 0 7 (dk_at dksX5_laysBoth_4 4 rfl rfl)
theorem dX5_laysBoth_98 : decode cX5_laysBoth 98 = .ok (.iload_n 3, 1) := dk_29 (dk_at dksX5_laysBoth_4 7 rfl rfl)
theorem dX5_laysBoth_99 : decode cX5_laysBoth 99 = .ok (.iload 4, 2) := dk_21 4 (dk_at dksX5_laysBoth_4 8 rfl rfl)
theorem dX5_laysBoth_101 : decode cX5_laysBoth 101 = .ok (.iadd, 1) := dk_96 (dk_at dksX5_laysBoth_4 10 rfl rfl)
theorem dX5_laysBoth_102 : decode cX5_laysBoth 102 = .ok (.iastore, 1) := dk_79 (dk_at dksX5_laysBoth_4 11 rfl rfl)
theorem dX5_laysBoth_103 : decode cX5_laysBoth 103 = .ok (.iinc 2 1, 3) := dk_132 2 1 (dk_at dksX5_laysBoth_4 12 rfl rfl)
theorem dX5_laysBoth_106 : decode cX5_laysBoth 106 = .ok (.goto (-86), 3) := dk_167 255 170 (dk_at dksX5_laysBoth_4 15 rfl rfl)
theorem dX5_laysBoth_109 : decode cX5_laysBoth 109 = .ok (.iinc 1 1, 3) := dk_132 1 1 (dk_at dksX5_laysBoth_4 18 rfl rfl)
theorem dX5_laysBoth_112 : decode cX5_laysBoth 112 = .ok (.goto (-99), 3) := dk_167 255 157 (dk_at dksX5_laysBoth_4 21 rfl rfl)
theorem dX5_laysBoth_115 : decode cX5_laysBoth 115 = .ok (.iconst 0, 1) := dk_3 (dk_at dksX5_laysBoth_5 0 rfl rfl)
theorem dX5_laysBoth_116 : decode cX5_laysBoth 116 = .ok (.istore_n 1, 1) := dk_60 (dk_at dksX5_laysBoth_5 1 rfl rfl)
theorem dX5_laysBoth_117 : decode cX5_laysBoth 117 = .ok (.iload_n 1, 1) := dk_27 (dk_at dksX5_laysBoth_5 2 rfl rfl)
theorem dX5_laysBoth_118 : decode cX5_laysBoth 118 = .ok (.aload_n 0, 1) := dk_42 (dk_at dksX5_laysBoth_5 3 rfl rfl)
theorem dX5_laysBoth_119 : decode cX5_laysBoth 119 = .ok (.getfield 7, 3) := dk_180 0 7 (dk_at dksX5_laysBoth_5 4 rfl rfl)
theorem dX5_laysBoth_122 : decode cX5_laysBoth 122 = .ok (.iconst 2, 1) := dk_5 (dk_at dksX5_laysBoth_5 7 rfl rfl)
theorem dX5_laysBoth_123 : decode cX5_laysBoth 123 = .ok (.iaload, 1) := dk_46 (dk_at dksX5_laysBoth_5 8 rfl rfl)
theorem dX5_laysBoth_124 : decode cX5_laysBoth 124 = .ok (.if_icmp .ge 14, 3) := dk_162 0 14 (dk_at dksX5_laysBoth_5 9 rfl rfl)
theorem dX5_laysBoth_127 : decode cX5_laysBoth 127 = .ok (.aload_n 0, 1) := dk_42 (dk_at dksX5_laysBoth_5 12 rfl rfl)
theorem dX5_laysBoth_128 : decode cX5_laysBoth 128 = .ok (.iload_n 1, 1) := dk_27 (dk_at dksX5_laysBoth_5 13 rfl rfl)
theorem dX5_laysBoth_129 : decode cX5_laysBoth 129 = .ok (.invokevirtual 166, 3) := dk_182 0 166 (dk_at dksX5_laysBoth_5 14 rfl rfl)
theorem dX5_laysBoth_132 : decode cX5_laysBoth 132 = .ok (.iinc 1 1, 3) := dk_132 1 1 (dk_at dksX5_laysBoth_5 17 rfl rfl)
theorem dX5_laysBoth_135 : decode cX5_laysBoth 135 = .ok (.goto (-18), 3) := dk_167 255 238 (dk_at dksX5_laysBoth_5 20 rfl rfl)
theorem dX5_laysBoth_138 : decode cX5_laysBoth 138 = .ok (.iconst 0, 1) := dk_3 (dk_at dksX5_laysBoth_5 23 rfl rfl)
theorem dX5_laysBoth_139 : decode cX5_laysBoth 139 = .ok (.istore_n 1, 1) := dk_60 (dk_at dksX5_laysBoth_6 0 rfl rfl)
theorem dX5_laysBoth_140 : decode cX5_laysBoth 140 = .ok (.iload_n 1, 1) := dk_27 (dk_at dksX5_laysBoth_6 1 rfl rfl)
theorem dX5_laysBoth_141 : decode cX5_laysBoth 141 = .ok (.aload_n 0, 1) := dk_42 (dk_at dksX5_laysBoth_6 2 rfl rfl)
theorem dX5_laysBoth_142 : decode cX5_laysBoth 142 = .ok (.getfield 7, 3) := dk_180 0 7 (dk_at dksX5_laysBoth_6 3 rfl rfl)
theorem dX5_laysBoth_145 : decode cX5_laysBoth 145 = .ok (.iconst 3, 1) := dk_6 (dk_at dksX5_laysBoth_6 6 rfl rfl)
theorem dX5_laysBoth_146 : decode cX5_laysBoth 146 = .ok (.iaload, 1) := dk_46 (dk_at dksX5_laysBoth_6 7 rfl rfl)
theorem dX5_laysBoth_147 : decode cX5_laysBoth 147 = .ok (.if_icmp .ge 102, 3) := dk_162 0 102 (dk_at dksX5_laysBoth_6 8 rfl rfl)
theorem dX5_laysBoth_150 : decode cX5_laysBoth 150 = .ok (.aload_n 0, 1) := dk_42 (dk_at dksX5_laysBoth_6 11 rfl rfl)
theorem dX5_laysBoth_151 : decode cX5_laysBoth 151 = .ok (.getfield 7, 3) := dk_180 0 7 (dk_at dksX5_laysBoth_6 12 rfl rfl)
theorem dX5_laysBoth_154 : decode cX5_laysBoth 154 = .ok (.iconst 1, 1) := dk_4 (dk_at dksX5_laysBoth_6 15 rfl rfl)
theorem dX5_laysBoth_155 : decode cX5_laysBoth 155 = .ok (.iload_n 1, 1) := dk_27 (dk_at dksX5_laysBoth_6 16 rfl rfl)
theorem dX5_laysBoth_156 : decode cX5_laysBoth 156 = .ok (.iconst 2, 1) := dk_5 (dk_at dksX5_laysBoth_6 17 rfl rfl)
theorem dX5_laysBoth_157 : decode cX5_laysBoth 157 = .ok (.invokestatic 130, 3) := dk_184 0 130 (dk_at dksX5_laysBoth_6 18 rfl rfl)
theorem dX5_laysBoth_160 : decode cX5_laysBoth 160 = .ok (.iaload, 1) := dk_46 (dk_at dksX5_laysBoth_6 21 rfl rfl)
theorem dX5_laysBoth_161 : decode cX5_laysBoth 161 = .ok (.iconst 4, 1) := dk_7 (dk_at dksX5_laysBoth_6 22 rfl rfl)
theorem dX5_laysBoth_162 : decode cX5_laysBoth 162 = .ok (.if_icmp .eq 6, 3) := dk_159 0 6 (dk_at dksX5_laysBoth_7 0 rfl rfl)
theorem dX5_laysBoth_165 : decode cX5_laysBoth 165 = .ok (.goto 78, 3) := dk_167 0 78 (dk_at dksX5_laysBoth_7 3 rfl rfl)
theorem dX5_laysBoth_168 : decode cX5_laysBoth 168 = .ok (.iconst 0, 1) := dk_3 (dk_at dksX5_laysBoth_7 6 rfl rfl)
theorem dX5_laysBoth_169 : decode cX5_laysBoth 169 = .ok (.istore_n 2, 1) := dk_61 (dk_at dksX5_laysBoth_7 7 rfl rfl)
theorem dX5_laysBoth_170 : decode cX5_laysBoth 170 = .ok (.iload_n 2, 1) := dk_28 (dk_at dksX5_laysBoth_7 8 rfl rfl)
theorem dX5_laysBoth_171 : decode cX5_laysBoth 171 = .ok (.aload_n 0, 1) := dk_42 (dk_at dksX5_laysBoth_7 9 rfl rfl)
theorem dX5_laysBoth_172 : decode cX5_laysBoth 172 = .ok (.getfield 7, 3) := dk_180 0 7 (dk_at dksX5_laysBoth_7 10 rfl rfl)
theorem dX5_laysBoth_175 : decode cX5_laysBoth 175 = .ok (.iconst 0, 1) := dk_3 (dk_at dksX5_laysBoth_7 13 rfl rfl)
theorem dX5_laysBoth_176 : decode cX5_laysBoth 176 = .ok (.iaload, 1) := dk_46 (dk_at dksX5_laysBoth_7 14 rfl rfl)
theorem dX5_laysBoth_177 : decode cX5_laysBoth 177 = .ok (.if_icmp .ge 66, 3) := dk_162 0 66 (dk_at dksX5_laysBoth_7 15 rfl rfl)
theorem dX5_laysBoth_180 : decode cX5_laysBoth 180 = .ok (.aload_n 0, 1) := dk_42 (dk_at dksX5_laysBoth_7 18 rfl rfl)
theorem dX5_laysBoth_181 : decode cX5_laysBoth 181 = .ok (.iload_n 2, 1) := dk_28 (dk_at dksX5_laysBoth_7 19 rfl rfl)
theorem dX5_laysBoth_182 : decode cX5_laysBoth 182 = .ok (.aload_n 0, 1) := dk_42 (dk_at dksX5_laysBoth_7 20 rfl rfl)
theorem dX5_laysBoth_183 : decode cX5_laysBoth 183 = .ok (.getfield 7, 3) := dk_180 0 7 (dk_at dksX5_laysBoth_7 21 rfl rfl)
theorem dX5_laysBoth_186 : decode cX5_laysBoth 186 = .ok (.iconst 1, 1) := dk_4 (dk_at dksX5_laysBoth_8 0 rfl rfl)
theorem dX5_laysBoth_187 : decode cX5_laysBoth 187 = .ok (.iload_n 1, 1) := dk_27 (dk_at dksX5_laysBoth_8 1 rfl rfl)
theorem dX5_laysBoth_188 : decode cX5_laysBoth 188 = .ok (.iconst 0, 1) := dk_3 (dk_at dksX5_laysBoth_8 2 rfl rfl)
theorem dX5_laysBoth_189 : decode cX5_laysBoth 189 = .ok (.invokestatic 130, 3) := dk_184 0 130 (dk_at dksX5_laysBoth_8 3 rfl rfl)
theorem dX5_laysBoth_192 : decode cX5_laysBoth 192 = .ok (.iaload, 1) := dk_46 (dk_at dksX5_laysBoth_8 6 rfl rfl)
theorem dX5_laysBoth_193 : decode cX5_laysBoth 193 = .ok (.invokestatic 163, 3) := dk_184 0 163 (dk_at dksX5_laysBoth_8 7 rfl rfl)
theorem dX5_laysBoth_196 : decode cX5_laysBoth 196 = .ok (.iload_n 2, 1) := dk_28 (dk_at dksX5_laysBoth_8 10 rfl rfl)
theorem dX5_laysBoth_197 : decode cX5_laysBoth 197 = .ok (.aload_n 0, 1) := dk_42 (dk_at dksX5_laysBoth_8 11 rfl rfl)
theorem dX5_laysBoth_198 : decode cX5_laysBoth 198 = .ok (.getfield 7, 3) := dk_180 0 7 (dk_at dksX5_laysBoth_8 12 rfl rfl)
theorem dX5_laysBoth_201 : decode cX5_laysBoth 201 = .ok (.iconst 1, 1) := dk_4 (dk_at dksX5_laysBoth_8 15 rfl rfl)
theorem dX5_laysBoth_202 : decode cX5_laysBoth 202 = .ok (.iload_n 1, 1) := dk_27 (dk_at dksX5_laysBoth_8 16 rfl rfl)
theorem dX5_laysBoth_203 : decode cX5_laysBoth 203 = .ok (.iconst 1, 1) := dk_4 (dk_at dksX5_laysBoth_8 17 rfl rfl)
theorem dX5_laysBoth_204 : decode cX5_laysBoth 204 = .ok (.invokestatic 130, 3) := dk_184 0 130 (dk_at dksX5_laysBoth_8 18 rfl rfl)
theorem dX5_laysBoth_207 : decode cX5_laysBoth 207 = .ok (.iaload, 1) := dk_46 (dk_at dksX5_laysBoth_8 21 rfl rfl)
theorem dX5_laysBoth_208 : decode cX5_laysBoth 208 = .ok (.invokestatic 163, 3) := dk_184 0 163 (dk_at dksX5_laysBoth_9 0 rfl rfl)
theorem dX5_laysBoth_211 : decode cX5_laysBoth 211 = .ok (.iconst 4, 1) := dk_7 (dk_at dksX5_laysBoth_9 3 rfl rfl)
theorem dX5_laysBoth_212 : decode cX5_laysBoth 212 = .ok (.aload_n 0, 1) := dk_42 (dk_at dksX5_laysBoth_9 4 rfl rfl)
theorem dX5_laysBoth_213 : decode cX5_laysBoth 213 = .ok (.getfield 7, 3) := dk_180 0 7 (dk_at dksX5_laysBoth_9 5 rfl rfl)
theorem dX5_laysBoth_216 : decode cX5_laysBoth 216 = .ok (.iconst 1, 1) := dk_4 (dk_at dksX5_laysBoth_9 8 rfl rfl)
theorem dX5_laysBoth_217 : decode cX5_laysBoth 217 = .ok (.iload_n 1, 1) := dk_27 (dk_at dksX5_laysBoth_9 9 rfl rfl)
theorem dX5_laysBoth_218 : decode cX5_laysBoth 218 = .ok (.iconst 3, 1) := dk_6 (dk_at dksX5_laysBoth_9 10 rfl rfl)
theorem dX5_laysBoth_219 : decode cX5_laysBoth 219 = .ok (.invokestatic 130, 3) := dk_184 0 130 (dk_at dksX5_laysBoth_9 11 rfl rfl)
theorem dX5_laysBoth_222 : decode cX5_laysBoth 222 = .ok (.iaload, 1) := dk_46 (dk_at dksX5_laysBoth_9 14 rfl rfl)
theorem dX5_laysBoth_223 : decode cX5_laysBoth 223 = .ok (.aload_n 0, 1) := dk_42 (dk_at dksX5_laysBoth_9 15 rfl rfl)
theorem dX5_laysBoth_224 : decode cX5_laysBoth 224 = .ok (.getfield 7, 3) := dk_180 0 7 (dk_at dksX5_laysBoth_9 16 rfl rfl)
theorem dX5_laysBoth_227 : decode cX5_laysBoth 227 = .ok (.iconst 1, 1) := dk_4 (dk_at dksX5_laysBoth_9 19 rfl rfl)
theorem dX5_laysBoth_228 : decode cX5_laysBoth 228 = .ok (.iload_n 1, 1) := dk_27 (dk_at dksX5_laysBoth_9 20 rfl rfl)
theorem dX5_laysBoth_229 : decode cX5_laysBoth 229 = .ok (.iconst 4, 1) := dk_7 (dk_at dksX5_laysBoth_9 21 rfl rfl)
theorem dX5_laysBoth_230 : decode cX5_laysBoth 230 = .ok (.invokestatic 130, 3) := dk_184 0 130 (dk_at dksX5_laysBoth_10 0 rfl rfl)
theorem dX5_laysBoth_233 : decode cX5_laysBoth 233 = .ok (.iaload, 1) := dk_46 (dk_at dksX5_laysBoth_10 3 rfl rfl)
theorem dX5_laysBoth_234 : decode cX5_laysBoth 234 = .ok (.invokevirtual 159, 3) := dk_182 0 159 (dk_at dksX5_laysBoth_10 4 rfl rfl)
theorem dX5_laysBoth_237 : decode cX5_laysBoth 237 = .ok (.iinc 2 1, 3) := dk_132 2 1 (dk_at dksX5_laysBoth_10 7 rfl rfl)
theorem dX5_laysBoth_240 : decode cX5_laysBoth 240 = .ok (.goto (-70), 3) := dk_167 255 186 (dk_at dksX5_laysBoth_10 10 rfl rfl)
theorem dX5_laysBoth_243 : decode cX5_laysBoth 243 = .ok (.iinc 1 1, 3) := dk_132 1 1 (dk_at dksX5_laysBoth_10 13 rfl rfl)
theorem dX5_laysBoth_246 : decode cX5_laysBoth 246 = .ok (.goto (-106), 3) := dk_167 255 150 (dk_at dksX5_laysBoth_10 16 rfl rfl)
theorem dX5_laysBoth_249 : decode cX5_laysBoth 249 = .ok (.return_, 1) := dk_177 (dk_at dksX5_laysBoth_10 19 rfl rfl)
abbrev cX5_pair : ByteArray := prog_19_method_30_code
def yX5_pair : MethodName := ⟨RX5, "pair", "(II)I"⟩
def dkwX5_pair_0 : List UInt8 := [8, 26, 104, 27, 96, 172]
abbrev dktX5_pair_0 : List UInt8 := dkwX5_pair_0 ++ []
theorem dksX5_pair_0 : cX5_pair.data.toList.drop 0 = dktX5_pair_0 := by decide +kernel
theorem dX5_pair_0 : decode cX5_pair 0 = .ok (.iconst 5, 1) := dk_8 (dk_at dksX5_pair_0 0 rfl rfl)
theorem dX5_pair_1 : decode cX5_pair 1 = .ok (.iload_n 0, 1) := dk_26 (dk_at dksX5_pair_0 1 rfl rfl)
theorem dX5_pair_2 : decode cX5_pair 2 = .ok (.imul, 1) := dk_104 (dk_at dksX5_pair_0 2 rfl rfl)
theorem dX5_pair_3 : decode cX5_pair 3 = .ok (.iload_n 1, 1) := dk_27 (dk_at dksX5_pair_0 3 rfl rfl)
theorem dX5_pair_4 : decode cX5_pair 4 = .ok (.iadd, 1) := dk_96 (dk_at dksX5_pair_0 4 rfl rfl)
theorem dX5_pair_5 : decode cX5_pair 5 = .ok (.ireturn, 1) := dk_172 (dk_at dksX5_pair_0 5 rfl rfl)
abbrev cX5_laysFirst : ByteArray := prog_19_method_31_code
def yX5_laysFirst : MethodName := ⟨RX5, "laysFirst", "(I)V"⟩
def dkwX5_laysFirst_8 : List UInt8 := [180, 0, 7, 4, 21, 7, 7, 184, 0, 130, 46, 96, 182, 0, 159, 132, 7, 1, 167, 255, 160, 177]
abbrev dktX5_laysFirst_8 : List UInt8 := dkwX5_laysFirst_8 ++ []
def dkwX5_laysFirst_7 : List UInt8 := [184, 0, 130, 46, 184, 0, 163, 21, 4, 42, 180, 0, 7, 4, 21, 7, 6, 184, 0, 130, 46, 21, 6, 42]
abbrev dktX5_laysFirst_7 : List UInt8 := dkwX5_laysFirst_7 ++ dktX5_laysFirst_8
def dkwX5_laysFirst_6 : List UInt8 := [42, 180, 0, 7, 4, 21, 7, 3, 184, 0, 130, 46, 184, 0, 163, 29, 42, 180, 0, 7, 4, 21, 7, 4]
abbrev dktX5_laysFirst_6 : List UInt8 := dkwX5_laysFirst_6 ++ dktX5_laysFirst_7
def dkwX5_laysFirst_5 : List UInt8 := [6, 46, 162, 0, 91, 42, 180, 0, 7, 4, 21, 7, 5, 184, 0, 130, 46, 21, 5, 160, 0, 68, 42, 28]
abbrev dktX5_laysFirst_5 : List UInt8 := dkwX5_laysFirst_5 ++ dktX5_laysFirst_6
def dkwX5_laysFirst_4 : List UInt8 := [21, 4, 7, 21, 6, 182, 0, 159, 132, 7, 1, 167, 255, 221, 177, 3, 54, 7, 21, 7, 42, 180, 0, 7]
abbrev dktX5_laysFirst_4 : List UInt8 := dkwX5_laysFirst_4 ++ dktX5_laysFirst_5
def dkwX5_laysFirst_3 : List UInt8 := [21, 7, 42, 180, 0, 7, 4, 46, 162, 0, 30, 42, 28, 21, 7, 184, 0, 163, 29, 21, 7, 184, 0, 163]
abbrev dktX5_laysFirst_3 : List UInt8 := dkwX5_laysFirst_3 ++ dktX5_laysFirst_4
def dkwX5_laysFirst_2 : List UInt8 := [54, 5, 42, 180, 0, 7, 3, 27, 7, 184, 0, 130, 46, 54, 6, 21, 5, 7, 160, 0, 45, 3, 54, 7]
abbrev dktX5_laysFirst_2 : List UInt8 := dkwX5_laysFirst_2 ++ dktX5_laysFirst_3
def dkwX5_laysFirst_1 : List UInt8 := [42, 180, 0, 7, 3, 27, 5, 184, 0, 130, 46, 54, 4, 42, 180, 0, 7, 3, 27, 6, 184, 0, 130, 46]
abbrev dktX5_laysFirst_1 : List UInt8 := dkwX5_laysFirst_1 ++ dktX5_laysFirst_2
def dkwX5_laysFirst_0 : List UInt8 := [42, 180, 0, 7, 3, 27, 3, 184, 0, 130, 46, 61, 42, 180, 0, 7, 3, 27, 4, 184, 0, 130, 46, 62]
abbrev dktX5_laysFirst_0 : List UInt8 := dkwX5_laysFirst_0 ++ dktX5_laysFirst_1
theorem dksX5_laysFirst_0 : cX5_laysFirst.data.toList.drop 0 = dktX5_laysFirst_0 := by decide +kernel
theorem dksX5_laysFirst_1 : cX5_laysFirst.data.toList.drop 24 = dktX5_laysFirst_1 := dk_seg dksX5_laysFirst_0 24 rfl rfl
theorem dksX5_laysFirst_2 : cX5_laysFirst.data.toList.drop 48 = dktX5_laysFirst_2 := dk_seg dksX5_laysFirst_1 24 rfl rfl
theorem dksX5_laysFirst_3 : cX5_laysFirst.data.toList.drop 72 = dktX5_laysFirst_3 := dk_seg dksX5_laysFirst_2 24 rfl rfl
theorem dksX5_laysFirst_4 : cX5_laysFirst.data.toList.drop 96 = dktX5_laysFirst_4 := dk_seg dksX5_laysFirst_3 24 rfl rfl
theorem dksX5_laysFirst_5 : cX5_laysFirst.data.toList.drop 120 = dktX5_laysFirst_5 := dk_seg dksX5_laysFirst_4 24 rfl rfl
theorem dksX5_laysFirst_6 : cX5_laysFirst.data.toList.drop 144 = dktX5_laysFirst_6 := dk_seg dksX5_laysFirst_5 24 rfl rfl
theorem dksX5_laysFirst_7 : cX5_laysFirst.data.toList.drop 168 = dktX5_laysFirst_7 := dk_seg dksX5_laysFirst_6 24 rfl rfl
theorem dksX5_laysFirst_8 : cX5_laysFirst.data.toList.drop 192 = dktX5_laysFirst_8 := dk_seg dksX5_laysFirst_7 24 rfl rfl
theorem dX5_laysFirst_0 : decode cX5_laysFirst 0 = .ok (.aload_n 0, 1) := dk_42 (dk_at dksX5_laysFirst_0 0 rfl rfl)
theorem dX5_laysFirst_1 : decode cX5_laysFirst 1 = .ok (.getfield 7, 3) := dk_180 0 7 (dk_at dksX5_laysFirst_0 1 rfl rfl)
theorem dX5_laysFirst_4 : decode cX5_laysFirst 4 = .ok (.iconst 0, 1) := dk_3 (dk_at dksX5_laysFirst_0 4 rfl rfl)
theorem dX5_laysFirst_5 : decode cX5_laysFirst 5 = .ok (.iload_n 1, 1) := dk_27 (dk_at dksX5_laysFirst_0 5 rfl rfl)
theorem dX5_laysFirst_6 : decode cX5_laysFirst 6 = .ok (.iconst 0, 1) := dk_3 (dk_at dksX5_laysFirst_0 6 rfl rfl)
theorem dX5_laysFirst_7 : decode cX5_laysFirst 7 = .ok (.invokestatic 130, 3) := dk_184 0 130 (dk_at dksX5_laysFirst_0 7 rfl rfl)
theorem dX5_laysFirst_10 : decode cX5_laysFirst 10 = .ok (.iaload, 1) := dk_46 (dk_at dksX5_laysFirst_0 10 rfl rfl)
theorem dX5_laysFirst_11 : decode cX5_laysFirst 11 = .ok (.istore_n 2, 1) := dk_61 (dk_at dksX5_laysFirst_0 11 rfl rfl)
theorem dX5_laysFirst_12 : decode cX5_laysFirst 12 = .ok (.aload_n 0, 1) := dk_42 (dk_at dksX5_laysFirst_0 12 rfl rfl)
theorem dX5_laysFirst_13 : decode cX5_laysFirst 13 = .ok (.getfield 7, 3) := dk_180 0 7 (dk_at dksX5_laysFirst_0 13 rfl rfl)
theorem dX5_laysFirst_16 : decode cX5_laysFirst 16 = .ok (.iconst 0, 1) := dk_3 (dk_at dksX5_laysFirst_0 16 rfl rfl)
theorem dX5_laysFirst_17 : decode cX5_laysFirst 17 = .ok (.iload_n 1, 1) := dk_27 (dk_at dksX5_laysFirst_0 17 rfl rfl)
theorem dX5_laysFirst_18 : decode cX5_laysFirst 18 = .ok (.iconst 1, 1) := dk_4 (dk_at dksX5_laysFirst_0 18 rfl rfl)
theorem dX5_laysFirst_19 : decode cX5_laysFirst 19 = .ok (.invokestatic 130, 3) := dk_184 0 130 (dk_at dksX5_laysFirst_0 19 rfl rfl)
theorem dX5_laysFirst_22 : decode cX5_laysFirst 22 = .ok (.iaload, 1) := dk_46 (dk_at dksX5_laysFirst_0 22 rfl rfl)
theorem dX5_laysFirst_23 : decode cX5_laysFirst 23 = .ok (.istore_n 3, 1) := dk_62 (dk_at dksX5_laysFirst_0 23 rfl rfl)
theorem dX5_laysFirst_24 : decode cX5_laysFirst 24 = .ok (.aload_n 0, 1) := dk_42 (dk_at dksX5_laysFirst_1 0 rfl rfl)
theorem dX5_laysFirst_25 : decode cX5_laysFirst 25 = .ok (.getfield 7, 3) := dk_180 0 7 (dk_at dksX5_laysFirst_1 1 rfl rfl)
theorem dX5_laysFirst_28 : decode cX5_laysFirst 28 = .ok (.iconst 0, 1) := dk_3 (dk_at dksX5_laysFirst_1 4 rfl rfl)
theorem dX5_laysFirst_29 : decode cX5_laysFirst 29 = .ok (.iload_n 1, 1) := dk_27 (dk_at dksX5_laysFirst_1 5 rfl rfl)
theorem dX5_laysFirst_30 : decode cX5_laysFirst 30 = .ok (.iconst 2, 1) := dk_5 (dk_at dksX5_laysFirst_1 6 rfl rfl)
theorem dX5_laysFirst_31 : decode cX5_laysFirst 31 = .ok (.invokestatic 130, 3) := dk_184 0 130 (dk_at dksX5_laysFirst_1 7 rfl rfl)
theorem dX5_laysFirst_34 : decode cX5_laysFirst 34 = .ok (.iaload, 1) := dk_46 (dk_at dksX5_laysFirst_1 10 rfl rfl)
theorem dX5_laysFirst_35 : decode cX5_laysFirst 35 = .ok (.istore 4, 2) := dk_54 4 (dk_at dksX5_laysFirst_1 11 rfl rfl)
theorem dX5_laysFirst_37 : decode cX5_laysFirst 37 = .ok (.aload_n 0, 1) := dk_42 (dk_at dksX5_laysFirst_1 13 rfl rfl)
theorem dX5_laysFirst_38 : decode cX5_laysFirst 38 = .ok (.getfield 7, 3) := dk_180 0 7 (dk_at dksX5_laysFirst_1 14 rfl rfl)
theorem dX5_laysFirst_41 : decode cX5_laysFirst 41 = .ok (.iconst 0, 1) := dk_3 (dk_at dksX5_laysFirst_1 17 rfl rfl)
theorem dX5_laysFirst_42 : decode cX5_laysFirst 42 = .ok (.iload_n 1, 1) := dk_27 (dk_at dksX5_laysFirst_1 18 rfl rfl)
theorem dX5_laysFirst_43 : decode cX5_laysFirst 43 = .ok (.iconst 3, 1) := dk_6 (dk_at dksX5_laysFirst_1 19 rfl rfl)
theorem dX5_laysFirst_44 : decode cX5_laysFirst 44 = .ok (.invokestatic 130, 3) := dk_184 0 130 (dk_at dksX5_laysFirst_1 20 rfl rfl)
theorem dX5_laysFirst_47 : decode cX5_laysFirst 47 = .ok (.iaload, 1) := dk_46 (dk_at dksX5_laysFirst_1 23 rfl rfl)
theorem dX5_laysFirst_48 : decode cX5_laysFirst 48 = .ok (.istore 5, 2) := dk_54 5 (dk_at dksX5_laysFirst_2 0 rfl rfl)
theorem dX5_laysFirst_50 : decode cX5_laysFirst 50 = .ok (.aload_n 0, 1) := dk_42 (dk_at dksX5_laysFirst_2 2 rfl rfl)
theorem dX5_laysFirst_51 : decode cX5_laysFirst 51 = .ok (.getfield 7, 3) := dk_180 0 7 (dk_at dksX5_laysFirst_2 3 rfl rfl)
theorem dX5_laysFirst_54 : decode cX5_laysFirst 54 = .ok (.iconst 0, 1) := dk_3 (dk_at dksX5_laysFirst_2 6 rfl rfl)
theorem dX5_laysFirst_55 : decode cX5_laysFirst 55 = .ok (.iload_n 1, 1) := dk_27 (dk_at dksX5_laysFirst_2 7 rfl rfl)
theorem dX5_laysFirst_56 : decode cX5_laysFirst 56 = .ok (.iconst 4, 1) := dk_7 (dk_at dksX5_laysFirst_2 8 rfl rfl)
theorem dX5_laysFirst_57 : decode cX5_laysFirst 57 = .ok (.invokestatic 130, 3) := dk_184 0 130 (dk_at dksX5_laysFirst_2 9 rfl rfl)
theorem dX5_laysFirst_60 : decode cX5_laysFirst 60 = .ok (.iaload, 1) := dk_46 (dk_at dksX5_laysFirst_2 12 rfl rfl)
theorem dX5_laysFirst_61 : decode cX5_laysFirst 61 = .ok (.istore 6, 2) := dk_54 6 (dk_at dksX5_laysFirst_2 13 rfl rfl)
theorem dX5_laysFirst_63 : decode cX5_laysFirst 63 = .ok (.iload 5, 2) := dk_21 5 (dk_at dksX5_laysFirst_2 15 rfl rfl)
theorem dX5_laysFirst_65 : decode cX5_laysFirst 65 = .ok (.iconst 4, 1) := dk_7 (dk_at dksX5_laysFirst_2 17 rfl rfl)
theorem dX5_laysFirst_66 : decode cX5_laysFirst 66 = .ok (.if_icmp .ne 45, 3) := dk_160 0 45 (dk_at dksX5_laysFirst_2 18 rfl rfl)
theorem dX5_laysFirst_69 : decode cX5_laysFirst 69 = .ok (.iconst 0, 1) := dk_3 (dk_at dksX5_laysFirst_2 21 rfl rfl)
theorem dX5_laysFirst_70 : decode cX5_laysFirst 70 = .ok (.istore 7, 2) := dk_54 7 (dk_at dksX5_laysFirst_2 22 rfl rfl)
theorem dX5_laysFirst_72 : decode cX5_laysFirst 72 = .ok (.iload 7, 2) := dk_21 7 (dk_at dksX5_laysFirst_3 0 rfl rfl)
theorem dX5_laysFirst_74 : decode cX5_laysFirst 74 = .ok (.aload_n 0, 1) := dk_42 (dk_at dksX5_laysFirst_3 2 rfl rfl)
theorem dX5_laysFirst_75 : decode cX5_laysFirst 75 = .ok (.getfield 7, 3) := dk_180 0 7 (dk_at dksX5_laysFirst_3 3 rfl rfl)
theorem dX5_laysFirst_78 : decode cX5_laysFirst 78 = .ok (.iconst 1, 1) := dk_4 (dk_at dksX5_laysFirst_3 6 rfl rfl)
theorem dX5_laysFirst_79 : decode cX5_laysFirst 79 = .ok (.iaload, 1) := dk_46 (dk_at dksX5_laysFirst_3 7 rfl rfl)
theorem dX5_laysFirst_80 : decode cX5_laysFirst 80 = .ok (.if_icmp .ge 30, 3) := dk_162 0 30 (dk_at dksX5_laysFirst_3 8 rfl rfl)
theorem dX5_laysFirst_83 : decode cX5_laysFirst 83 = .ok (.aload_n 0, 1) := dk_42 (dk_at dksX5_laysFirst_3 11 rfl rfl)
theorem dX5_laysFirst_84 : decode cX5_laysFirst 84 = .ok (.iload_n 2, 1) := dk_28 (dk_at dksX5_laysFirst_3 12 rfl rfl)
theorem dX5_laysFirst_85 : decode cX5_laysFirst 85 = .ok (.iload 7, 2) := dk_21 7 (dk_at dksX5_laysFirst_3 13 rfl rfl)
theorem dX5_laysFirst_87 : decode cX5_laysFirst 87 = .ok (.invokestatic 163, 3) := dk_184 0 163 (dk_at dksX5_laysFirst_3 15 rfl rfl)
theorem dX5_laysFirst_90 : decode cX5_laysFirst 90 = .ok (.iload_n 3, 1) := dk_29 (dk_at dksX5_laysFirst_3 18 rfl rfl)
theorem dX5_laysFirst_91 : decode cX5_laysFirst 91 = .ok (.iload 7, 2) := dk_21 7 (dk_at dksX5_laysFirst_3 19 rfl rfl)
theorem dX5_laysFirst_93 : decode cX5_laysFirst 93 = .ok (.invokestatic 163, 3) := dk_184 0 163 (dk_at dksX5_laysFirst_3 21 rfl rfl)
theorem dX5_laysFirst_96 : decode cX5_laysFirst 96 = .ok (.iload 4, 2) := dk_21 4 (dk_at dksX5_laysFirst_4 0 rfl rfl)
theorem dX5_laysFirst_98 : decode cX5_laysFirst 98 = .ok (.iconst 4, 1) := dk_7 (dk_at dksX5_laysFirst_4 2 rfl rfl)
theorem dX5_laysFirst_99 : decode cX5_laysFirst 99 = .ok (.iload 6, 2) := dk_21 6 (dk_at dksX5_laysFirst_4 3 rfl rfl)
theorem dX5_laysFirst_101 : decode cX5_laysFirst 101 = .ok (.invokevirtual 159, 3) := dk_182 0 159 (dk_at dksX5_laysFirst_4 5 rfl rfl)
theorem dX5_laysFirst_104 : decode cX5_laysFirst 104 = .ok (.iinc 7 1, 3) := dk_132 7 1 (dk_at dksX5_laysFirst_4 8 rfl rfl)
theorem dX5_laysFirst_107 : decode cX5_laysFirst 107 = .ok (.goto (-35), 3) := dk_167 255 221 (dk_at dksX5_laysFirst_4 11 rfl rfl)
theorem dX5_laysFirst_110 : decode cX5_laysFirst 110 = .ok (.return_, 1) := dk_177 (dk_at dksX5_laysFirst_4 14 rfl rfl)
theorem dX5_laysFirst_111 : decode cX5_laysFirst 111 = .ok (.iconst 0, 1) := dk_3 (dk_at dksX5_laysFirst_4 15 rfl rfl)
theorem dX5_laysFirst_112 : decode cX5_laysFirst 112 = .ok (.istore 7, 2) := dk_54 7 (dk_at dksX5_laysFirst_4 16 rfl rfl)
theorem dX5_laysFirst_114 : decode cX5_laysFirst 114 = .ok (.iload 7, 2) := dk_21 7 (dk_at dksX5_laysFirst_4 18 rfl rfl)
theorem dX5_laysFirst_116 : decode cX5_laysFirst 116 = .ok (.aload_n 0, 1) := dk_42 (dk_at dksX5_laysFirst_4 20 rfl rfl)
theorem dX5_laysFirst_117 : decode cX5_laysFirst 117 = .ok (.getfield 7, 3) := dk_180 0 7 (dk_at dksX5_laysFirst_4 21 rfl rfl)
theorem dX5_laysFirst_120 : decode cX5_laysFirst 120 = .ok (.iconst 3, 1) := dk_6 (dk_at dksX5_laysFirst_5 0 rfl rfl)
theorem dX5_laysFirst_121 : decode cX5_laysFirst 121 = .ok (.iaload, 1) := dk_46 (dk_at dksX5_laysFirst_5 1 rfl rfl)
theorem dX5_laysFirst_122 : decode cX5_laysFirst 122 = .ok (.if_icmp .ge 91, 3) := dk_162 0 91 (dk_at dksX5_laysFirst_5 2 rfl rfl)
theorem dX5_laysFirst_125 : decode cX5_laysFirst 125 = .ok (.aload_n 0, 1) := dk_42 (dk_at dksX5_laysFirst_5 5 rfl rfl)
theorem dX5_laysFirst_126 : decode cX5_laysFirst 126 = .ok (.getfield 7, 3) := dk_180 0 7 (dk_at dksX5_laysFirst_5 6 rfl rfl)
theorem dX5_laysFirst_129 : decode cX5_laysFirst 129 = .ok (.iconst 1, 1) := dk_4 (dk_at dksX5_laysFirst_5 9 rfl rfl)
theorem dX5_laysFirst_130 : decode cX5_laysFirst 130 = .ok (.iload 7, 2) := dk_21 7 (dk_at dksX5_laysFirst_5 10 rfl rfl)
theorem dX5_laysFirst_132 : decode cX5_laysFirst 132 = .ok (.iconst 2, 1) := dk_5 (dk_at dksX5_laysFirst_5 12 rfl rfl)
theorem dX5_laysFirst_133 : decode cX5_laysFirst 133 = .ok (.invokestatic 130, 3) := dk_184 0 130 (dk_at dksX5_laysFirst_5 13 rfl rfl)
theorem dX5_laysFirst_136 : decode cX5_laysFirst 136 = .ok (.iaload, 1) := dk_46 (dk_at dksX5_laysFirst_5 16 rfl rfl)
theorem dX5_laysFirst_137 : decode cX5_laysFirst 137 = .ok (.iload 5, 2) := dk_21 5 (dk_at dksX5_laysFirst_5 17 rfl rfl)
theorem dX5_laysFirst_139 : decode cX5_laysFirst 139 = .ok (.if_icmp .ne 68, 3) := dk_160 0 68 (dk_at dksX5_laysFirst_5 19 rfl rfl)
theorem dX5_laysFirst_142 : decode cX5_laysFirst 142 = .ok (.aload_n 0, 1) := dk_42 (dk_at dksX5_laysFirst_5 22 rfl rfl)
theorem dX5_laysFirst_143 : decode cX5_laysFirst 143 = .ok (.iload_n 2, 1) := dk_28 (dk_at dksX5_laysFirst_5 23 rfl rfl)
theorem dX5_laysFirst_144 : decode cX5_laysFirst 144 = .ok (.aload_n 0, 1) := dk_42 (dk_at dksX5_laysFirst_6 0 rfl rfl)
theorem dX5_laysFirst_145 : decode cX5_laysFirst 145 = .ok (.getfield 7, 3) := dk_180 0 7 (dk_at dksX5_laysFirst_6 1 rfl rfl)
theorem dX5_laysFirst_148 : decode cX5_laysFirst 148 = .ok (.iconst 1, 1) := dk_4 (dk_at dksX5_laysFirst_6 4 rfl rfl)
theorem dX5_laysFirst_149 : decode cX5_laysFirst 149 = .ok (.iload 7, 2) := dk_21 7 (dk_at dksX5_laysFirst_6 5 rfl rfl)
theorem dX5_laysFirst_151 : decode cX5_laysFirst 151 = .ok (.iconst 0, 1) := dk_3 (dk_at dksX5_laysFirst_6 7 rfl rfl)
theorem dX5_laysFirst_152 : decode cX5_laysFirst 152 = .ok (.invokestatic 130, 3) := dk_184 0 130 (dk_at dksX5_laysFirst_6 8 rfl rfl)
theorem dX5_laysFirst_155 : decode cX5_laysFirst 155 = .ok (.iaload, 1) := dk_46 (dk_at dksX5_laysFirst_6 11 rfl rfl)
theorem dX5_laysFirst_156 : decode cX5_laysFirst 156 = .ok (.invokestatic 163, 3) := dk_184 0 163 (dk_at dksX5_laysFirst_6 12 rfl rfl)
theorem dX5_laysFirst_159 : decode cX5_laysFirst 159 = .ok (.iload_n 3, 1) := dk_29 (dk_at dksX5_laysFirst_6 15 rfl rfl)
theorem dX5_laysFirst_160 : decode cX5_laysFirst 160 = .ok (.aload_n 0, 1) := dk_42 (dk_at dksX5_laysFirst_6 16 rfl rfl)
theorem dX5_laysFirst_161 : decode cX5_laysFirst 161 = .ok (.getfield 7, 3) := dk_180 0 7 (dk_at dksX5_laysFirst_6 17 rfl rfl)
theorem dX5_laysFirst_164 : decode cX5_laysFirst 164 = .ok (.iconst 1, 1) := dk_4 (dk_at dksX5_laysFirst_6 20 rfl rfl)
theorem dX5_laysFirst_165 : decode cX5_laysFirst 165 = .ok (.iload 7, 2) := dk_21 7 (dk_at dksX5_laysFirst_6 21 rfl rfl)
theorem dX5_laysFirst_167 : decode cX5_laysFirst 167 = .ok (.iconst 1, 1) := dk_4 (dk_at dksX5_laysFirst_6 23 rfl rfl)
theorem dX5_laysFirst_168 : decode cX5_laysFirst 168 = .ok (.invokestatic 130, 3) := dk_184 0 130 (dk_at dksX5_laysFirst_7 0 rfl rfl)
theorem dX5_laysFirst_171 : decode cX5_laysFirst 171 = .ok (.iaload, 1) := dk_46 (dk_at dksX5_laysFirst_7 3 rfl rfl)
theorem dX5_laysFirst_172 : decode cX5_laysFirst 172 = .ok (.invokestatic 163, 3) := dk_184 0 163 (dk_at dksX5_laysFirst_7 4 rfl rfl)
theorem dX5_laysFirst_175 : decode cX5_laysFirst 175 = .ok (.iload 4, 2) := dk_21 4 (dk_at dksX5_laysFirst_7 7 rfl rfl)
theorem dX5_laysFirst_177 : decode cX5_laysFirst 177 = .ok (.aload_n 0, 1) := dk_42 (dk_at dksX5_laysFirst_7 9 rfl rfl)
theorem dX5_laysFirst_178 : decode cX5_laysFirst 178 = .ok (.getfield 7, 3) := dk_180 0 7 (dk_at dksX5_laysFirst_7 10 rfl rfl)
theorem dX5_laysFirst_181 : decode cX5_laysFirst 181 = .ok (.iconst 1, 1) := dk_4 (dk_at dksX5_laysFirst_7 13 rfl rfl)
theorem dX5_laysFirst_182 : decode cX5_laysFirst 182 = .ok (.iload 7, 2) := dk_21 7 (dk_at dksX5_laysFirst_7 14 rfl rfl)
theorem dX5_laysFirst_184 : decode cX5_laysFirst 184 = .ok (.iconst 3, 1) := dk_6 (dk_at dksX5_laysFirst_7 16 rfl rfl)
theorem dX5_laysFirst_185 : decode cX5_laysFirst 185 = .ok (.invokestatic 130, 3) := dk_184 0 130 (dk_at dksX5_laysFirst_7 17 rfl rfl)
theorem dX5_laysFirst_188 : decode cX5_laysFirst 188 = .ok (.iaload, 1) := dk_46 (dk_at dksX5_laysFirst_7 20 rfl rfl)
theorem dX5_laysFirst_189 : decode cX5_laysFirst 189 = .ok (.iload 6, 2) := dk_21 6 (dk_at dksX5_laysFirst_7 21 rfl rfl)
theorem dX5_laysFirst_191 : decode cX5_laysFirst 191 = .ok (.aload_n 0, 1) := dk_42 (dk_at dksX5_laysFirst_7 23 rfl rfl)
theorem dX5_laysFirst_192 : decode cX5_laysFirst 192 = .ok (.getfield 7, 3) := dk_180 0 7 (dk_at dksX5_laysFirst_8 0 rfl rfl)
theorem dX5_laysFirst_195 : decode cX5_laysFirst 195 = .ok (.iconst 1, 1) := dk_4 (dk_at dksX5_laysFirst_8 3 rfl rfl)
theorem dX5_laysFirst_196 : decode cX5_laysFirst 196 = .ok (.iload 7, 2) := dk_21 7 (dk_at dksX5_laysFirst_8 4 rfl rfl)
theorem dX5_laysFirst_198 : decode cX5_laysFirst 198 = .ok (.iconst 4, 1) := dk_7 (dk_at dksX5_laysFirst_8 6 rfl rfl)
theorem dX5_laysFirst_199 : decode cX5_laysFirst 199 = .ok (.invokestatic 130, 3) := dk_184 0 130 (dk_at dksX5_laysFirst_8 7 rfl rfl)
theorem dX5_laysFirst_202 : decode cX5_laysFirst 202 = .ok (.iaload, 1) := dk_46 (dk_at dksX5_laysFirst_8 10 rfl rfl)
theorem dX5_laysFirst_203 : decode cX5_laysFirst 203 = .ok (.iadd, 1) := dk_96 (dk_at dksX5_laysFirst_8 11 rfl rfl)
theorem dX5_laysFirst_204 : decode cX5_laysFirst 204 = .ok (.invokevirtual 159, 3) := dk_182 0 159 (dk_at dksX5_laysFirst_8 12 rfl rfl)
theorem dX5_laysFirst_207 : decode cX5_laysFirst 207 = .ok (.iinc 7 1, 3) := dk_132 7 1 (dk_at dksX5_laysFirst_8 15 rfl rfl)
theorem dX5_laysFirst_210 : decode cX5_laysFirst 210 = .ok (.goto (-96), 3) := dk_167 255 160 (dk_at dksX5_laysFirst_8 18 rfl rfl)
theorem dX5_laysFirst_213 : decode cX5_laysFirst 213 = .ok (.return_, 1) := dk_177 (dk_at dksX5_laysFirst_8 21 rfl rfl)
abbrev cX5_bothAgain : ByteArray := prog_19_method_48_code
def yX5_bothAgain : MethodName := ⟨RX5, "bothAgain", "()I"⟩
theorem dX5_bothAgain_0 : decode cX5_bothAgain 0 = .ok (.aload_n 0, 1) := by decide +kernel
theorem dX5_bothAgain_1 : decode cX5_bothAgain 1 = .ok (.invokevirtual 226, 3) := by decide +kernel
theorem dX5_bothAgain_4 : decode cX5_bothAgain 4 = .ok (.ireturn, 1) := by decide +kernel
abbrev cX5_singBoth : ByteArray := prog_19_method_49_code
def yX5_singBoth : MethodName := ⟨RX5, "singBoth", "()I"⟩
def dkwX5_singBoth_1 : List UInt8 := [182, 0, 220, 167, 0, 5, 16, 241, 172]
abbrev dktX5_singBoth_1 : List UInt8 := dkwX5_singBoth_1 ++ []
def dkwX5_singBoth_0 : List UInt8 := [42, 182, 0, 213, 154, 0, 6, 16, 244, 172, 42, 182, 0, 223, 42, 182, 0, 217, 153, 0, 10, 42]
abbrev dktX5_singBoth_0 : List UInt8 := dkwX5_singBoth_0 ++ dktX5_singBoth_1
theorem dksX5_singBoth_0 : cX5_singBoth.data.toList.drop 0 = dktX5_singBoth_0 := by decide +kernel
theorem dksX5_singBoth_1 : cX5_singBoth.data.toList.drop 22 = dktX5_singBoth_1 := dk_seg dksX5_singBoth_0 22 rfl rfl
theorem dX5_singBoth_0 : decode cX5_singBoth 0 = .ok (.aload_n 0, 1) := dk_42 (dk_at dksX5_singBoth_0 0 rfl rfl)
theorem dX5_singBoth_1 : decode cX5_singBoth 1 = .ok (.invokevirtual 213, 3) := dk_182 0 213 (dk_at dksX5_singBoth_0 1 rfl rfl)
theorem dX5_singBoth_4 : decode cX5_singBoth 4 = .ok (.ifCond .ne 6, 3) := dk_154 0 6 (dk_at dksX5_singBoth_0 4 rfl rfl)
theorem dX5_singBoth_7 : decode cX5_singBoth 7 = .ok (.bipush (-12), 2) := dk_16 244 (dk_at dksX5_singBoth_0 7 rfl rfl)
theorem dX5_singBoth_9 : decode cX5_singBoth 9 = .ok (.ireturn, 1) := dk_172 (dk_at dksX5_singBoth_0 9 rfl rfl)
theorem dX5_singBoth_10 : decode cX5_singBoth 10 = .ok (.aload_n 0, 1) := dk_42 (dk_at dksX5_singBoth_0 10 rfl rfl)
theorem dX5_singBoth_11 : decode cX5_singBoth 11 = .ok (.invokevirtual 223, 3) := dk_182 0 223 (dk_at dksX5_singBoth_0 11 rfl rfl)
theorem dX5_singBoth_14 : decode cX5_singBoth 14 = .ok (.aload_n 0, 1) := dk_42 (dk_at dksX5_singBoth_0 14 rfl rfl)
theorem dX5_singBoth_15 : decode cX5_singBoth 15 = .ok (.invokevirtual 217, 3) := dk_182 0 217 (dk_at dksX5_singBoth_0 15 rfl rfl)
theorem dX5_singBoth_18 : decode cX5_singBoth 18 = .ok (.ifCond .eq 10, 3) := dk_153 0 10 (dk_at dksX5_singBoth_0 18 rfl rfl)
theorem dX5_singBoth_21 : decode cX5_singBoth 21 = .ok (.aload_n 0, 1) := dk_42 (dk_at dksX5_singBoth_0 21 rfl rfl)
theorem dX5_singBoth_22 : decode cX5_singBoth 22 = .ok (.invokevirtual 220, 3) := dk_182 0 220 (dk_at dksX5_singBoth_1 0 rfl rfl)
theorem dX5_singBoth_25 : decode cX5_singBoth 25 = .ok (.goto 5, 3) := dk_167 0 5 (dk_at dksX5_singBoth_1 3 rfl rfl)
theorem dX5_singBoth_28 : decode cX5_singBoth 28 = .ok (.bipush (-15), 2) := dk_16 241 (dk_at dksX5_singBoth_1 6 rfl rfl)
theorem dX5_singBoth_30 : decode cX5_singBoth 30 = .ok (.ireturn, 1) := dk_172 (dk_at dksX5_singBoth_1 8 rfl rfl)
abbrev cX5_composed : ByteArray := prog_19_method_50_code
def yX5_composed : MethodName := ⟨RX5, "composed", "(I)I"⟩
def dkwX5_composed_6 : List UInt8 := [46, 46, 167, 0, 4, 3, 96, 61, 132, 3, 1, 167, 255, 202, 28, 172]
abbrev dktX5_composed_6 : List UInt8 := dkwX5_composed_6 ++ []
def dkwX5_composed_5 : List UInt8 := [27, 5, 159, 0, 13, 42, 180, 0, 28, 29, 46, 7, 160, 0, 17, 42, 180, 0, 40, 42, 180, 0, 22, 29]
abbrev dktX5_composed_5 : List UInt8 := dkwX5_composed_5 ++ dktX5_composed_6
def dkwX5_composed_4 : List UInt8 := [167, 255, 186, 3, 62, 29, 42, 180, 0, 153, 162, 0, 52, 27, 5, 159, 0, 8, 27, 6, 160, 0, 42, 28]
abbrev dktX5_composed_4 : List UInt8 := dkwX5_composed_4 ++ dktX5_composed_5
def dkwX5_composed_3 : List UInt8 := [180, 0, 37, 29, 46, 156, 0, 7, 3, 167, 0, 9, 42, 180, 0, 40, 29, 46, 96, 61, 132, 3, 1]
abbrev dktX5_composed_3 : List UInt8 := dkwX5_composed_3 ++ dktX5_composed_4
def dkwX5_composed_2 : List UInt8 := [180, 0, 40, 29, 46, 167, 0, 36, 27, 4, 160, 0, 12, 42, 180, 0, 43, 29, 46, 167, 0, 22, 42]
abbrev dktX5_composed_2 : List UInt8 := dkwX5_composed_2 ++ dktX5_composed_3
def dkwX5_composed_1 : List UInt8 := [29, 42, 180, 0, 156, 162, 0, 68, 27, 5, 159, 0, 63, 27, 6, 159, 0, 58, 28, 27, 154, 0, 12, 42]
abbrev dktX5_composed_1 : List UInt8 := dkwX5_composed_1 ++ dktX5_composed_2
def dkwX5_composed_0 : List UInt8 := [27, 3, 7, 184, 0, 95, 154, 0, 6, 16, 244, 172, 42, 182, 0, 223, 42, 182, 0, 173, 3, 61, 3, 62]
abbrev dktX5_composed_0 : List UInt8 := dkwX5_composed_0 ++ dktX5_composed_1
theorem dksX5_composed_0 : cX5_composed.data.toList.drop 0 = dktX5_composed_0 := by decide +kernel
theorem dksX5_composed_1 : cX5_composed.data.toList.drop 24 = dktX5_composed_1 := dk_seg dksX5_composed_0 24 rfl rfl
theorem dksX5_composed_2 : cX5_composed.data.toList.drop 48 = dktX5_composed_2 := dk_seg dksX5_composed_1 24 rfl rfl
theorem dksX5_composed_3 : cX5_composed.data.toList.drop 71 = dktX5_composed_3 := dk_seg dksX5_composed_2 23 rfl rfl
theorem dksX5_composed_4 : cX5_composed.data.toList.drop 94 = dktX5_composed_4 := dk_seg dksX5_composed_3 23 rfl rfl
theorem dksX5_composed_5 : cX5_composed.data.toList.drop 118 = dktX5_composed_5 := dk_seg dksX5_composed_4 24 rfl rfl
theorem dksX5_composed_6 : cX5_composed.data.toList.drop 142 = dktX5_composed_6 := dk_seg dksX5_composed_5 24 rfl rfl
theorem dX5_composed_0 : decode cX5_composed 0 = .ok (.iload_n 1, 1) := dk_27 (dk_at dksX5_composed_0 0 rfl rfl)
theorem dX5_composed_1 : decode cX5_composed 1 = .ok (.iconst 0, 1) := dk_3 (dk_at dksX5_composed_0 1 rfl rfl)
theorem dX5_composed_2 : decode cX5_composed 2 = .ok (.iconst 4, 1) := dk_7 (dk_at dksX5_composed_0 2 rfl rfl)
theorem dX5_composed_3 : decode cX5_composed 3 = .ok (.invokestatic 95, 3) := dk_184 0 95 (dk_at dksX5_composed_0 3 rfl rfl)
theorem dX5_composed_6 : decode cX5_composed 6 = .ok (.ifCond .ne 6, 3) := dk_154 0 6 (dk_at dksX5_composed_0 6 rfl rfl)
theorem dX5_composed_9 : decode cX5_composed 9 = .ok (.bipush (-12), 2) := dk_16 244 (dk_at dksX5_composed_0 9 rfl rfl)
theorem dX5_composed_11 : decode cX5_composed 11 = .ok (.ireturn, 1) := dk_172 (dk_at dksX5_composed_0 11 rfl rfl)
theorem dX5_composed_12 : decode cX5_composed 12 = .ok (.aload_n 0, 1) := dk_42 (dk_at dksX5_composed_0 12 rfl rfl)
theorem dX5_composed_13 : decode cX5_composed 13 = .ok (.invokevirtual 223, 3) := dk_182 0 223 (dk_at dksX5_composed_0 13 rfl rfl)
theorem dX5_composed_16 : decode cX5_composed 16 = .ok (.aload_n 0, 1) := dk_42 (dk_at dksX5_composed_0 16 rfl rfl)
theorem dX5_composed_17 : decode cX5_composed 17 = .ok (.invokevirtual 173, 3) := dk_182 0 173 (dk_at dksX5_composed_0 17 rfl rfl)
theorem dX5_composed_20 : decode cX5_composed 20 = .ok (.iconst 0, 1) := dk_3 (dk_at dksX5_composed_0 20 rfl rfl)
theorem dX5_composed_21 : decode cX5_composed 21 = .ok (.istore_n 2, 1) := dk_61 (dk_at dksX5_composed_0 21 rfl rfl)
theorem dX5_composed_22 : decode cX5_composed 22 = .ok (.iconst 0, 1) := dk_3 (dk_at dksX5_composed_0 22 rfl rfl)
theorem dX5_composed_23 : decode cX5_composed 23 = .ok (.istore_n 3, 1) := dk_62 (dk_at dksX5_composed_0 23 rfl rfl)
theorem dX5_composed_24 : decode cX5_composed 24 = .ok (.iload_n 3, 1) := dk_29 (dk_at dksX5_composed_1 0 rfl rfl)
theorem dX5_composed_25 : decode cX5_composed 25 = .ok (.aload_n 0, 1) := dk_42 (dk_at dksX5_composed_1 1 rfl rfl)
theorem dX5_composed_26 : decode cX5_composed 26 = .ok (.getfield 156, 3) := dk_180 0 156 (dk_at dksX5_composed_1 2 rfl rfl)
theorem dX5_composed_29 : decode cX5_composed 29 = .ok (.if_icmp .ge 68, 3) := dk_162 0 68 (dk_at dksX5_composed_1 5 rfl rfl)
theorem dX5_composed_32 : decode cX5_composed 32 = .ok (.iload_n 1, 1) := dk_27 (dk_at dksX5_composed_1 8 rfl rfl)
theorem dX5_composed_33 : decode cX5_composed 33 = .ok (.iconst 2, 1) := dk_5 (dk_at dksX5_composed_1 9 rfl rfl)
theorem dX5_composed_34 : decode cX5_composed 34 = .ok (.if_icmp .eq 63, 3) := dk_159 0 63 (dk_at dksX5_composed_1 10 rfl rfl)
theorem dX5_composed_37 : decode cX5_composed 37 = .ok (.iload_n 1, 1) := dk_27 (dk_at dksX5_composed_1 13 rfl rfl)
theorem dX5_composed_38 : decode cX5_composed 38 = .ok (.iconst 3, 1) := dk_6 (dk_at dksX5_composed_1 14 rfl rfl)
theorem dX5_composed_39 : decode cX5_composed 39 = .ok (.if_icmp .eq 58, 3) := dk_159 0 58 (dk_at dksX5_composed_1 15 rfl rfl)
theorem dX5_composed_42 : decode cX5_composed 42 = .ok (.iload_n 2, 1) := dk_28 (dk_at dksX5_composed_1 18 rfl rfl)
theorem dX5_composed_43 : decode cX5_composed 43 = .ok (.iload_n 1, 1) := dk_27 (dk_at dksX5_composed_1 19 rfl rfl)
theorem dX5_composed_44 : decode cX5_composed 44 = .ok (.ifCond .ne 12, 3) := dk_154 0 12 (dk_at dksX5_composed_1 20 rfl rfl)
theorem dX5_composed_47 : decode cX5_composed 47 = .ok (.aload_n 0, 1) := dk_42 (dk_at dksX5_composed_1 23 rfl rfl)
theorem dX5_composed_48 : decode cX5_composed 48 = .ok (.getfield 40, 3) := dk_180 0 40 (dk_at dksX5_composed_2 0 rfl rfl)
theorem dX5_composed_51 : decode cX5_composed 51 = .ok (.iload_n 3, 1) := dk_29 (dk_at dksX5_composed_2 3 rfl rfl)
theorem dX5_composed_52 : decode cX5_composed 52 = .ok (.iaload, 1) := dk_46 (dk_at dksX5_composed_2 4 rfl rfl)
theorem dX5_composed_53 : decode cX5_composed 53 = .ok (.goto 36, 3) := dk_167 0 36 (dk_at dksX5_composed_2 5 rfl rfl)
theorem dX5_composed_56 : decode cX5_composed 56 = .ok (.iload_n 1, 1) := dk_27 (dk_at dksX5_composed_2 8 rfl rfl)
theorem dX5_composed_57 : decode cX5_composed 57 = .ok (.iconst 1, 1) := dk_4 (dk_at dksX5_composed_2 9 rfl rfl)
theorem dX5_composed_58 : decode cX5_composed 58 = .ok (.if_icmp .ne 12, 3) := dk_160 0 12 (dk_at dksX5_composed_2 10 rfl rfl)
theorem dX5_composed_61 : decode cX5_composed 61 = .ok (.aload_n 0, 1) := dk_42 (dk_at dksX5_composed_2 13 rfl rfl)
theorem dX5_composed_62 : decode cX5_composed 62 = .ok (.getfield 43, 3) := dk_180 0 43 (dk_at dksX5_composed_2 14 rfl rfl)
theorem dX5_composed_65 : decode cX5_composed 65 = .ok (.iload_n 3, 1) := dk_29 (dk_at dksX5_composed_2 17 rfl rfl)
theorem dX5_composed_66 : decode cX5_composed 66 = .ok (.iaload, 1) := dk_46 (dk_at dksX5_composed_2 18 rfl rfl)
theorem dX5_composed_67 : decode cX5_composed 67 = .ok (.goto 22, 3) := dk_167 0 22 (dk_at dksX5_composed_2 19 rfl rfl)
theorem dX5_composed_70 : decode cX5_composed 70 = .ok (.aload_n 0, 1) := dk_42 (dk_at dksX5_composed_2 22 rfl rfl)
theorem dX5_composed_71 : decode cX5_composed 71 = .ok (.getfield 37, 3) := dk_180 0 37 (dk_at dksX5_composed_3 0 rfl rfl)
theorem dX5_composed_74 : decode cX5_composed 74 = .ok (.iload_n 3, 1) := dk_29 (dk_at dksX5_composed_3 3 rfl rfl)
theorem dX5_composed_75 : decode cX5_composed 75 = .ok (.iaload, 1) := dk_46 (dk_at dksX5_composed_3 4 rfl rfl)
theorem dX5_composed_76 : decode cX5_composed 76 = .ok (.ifCond .ge 7, 3) := dk_156 0 7 (dk_at dksX5_composed_3 5 rfl rfl)
theorem dX5_composed_79 : decode cX5_composed 79 = .ok (.iconst 0, 1) := dk_3 (dk_at dksX5_composed_3 8 rfl rfl)
theorem dX5_composed_80 : decode cX5_composed 80 = .ok (.goto 9, 3) := dk_167 0 9 (dk_at dksX5_composed_3 9 rfl rfl)
theorem dX5_composed_83 : decode cX5_composed 83 = .ok (.aload_n 0, 1) := dk_42 (dk_at dksX5_composed_3 12 rfl rfl)
theorem dX5_composed_84 : decode cX5_composed 84 = .ok (.getfield 40, 3) := dk_180 0 40 (dk_at dksX5_composed_3 13 rfl rfl)
theorem dX5_composed_87 : decode cX5_composed 87 = .ok (.iload_n 3, 1) := dk_29 (dk_at dksX5_composed_3 16 rfl rfl)
theorem dX5_composed_88 : decode cX5_composed 88 = .ok (.iaload, 1) := dk_46 (dk_at dksX5_composed_3 17 rfl rfl)
theorem dX5_composed_89 : decode cX5_composed 89 = .ok (.iadd, 1) := dk_96 (dk_at dksX5_composed_3 18 rfl rfl)
theorem dX5_composed_90 : decode cX5_composed 90 = .ok (.istore_n 2, 1) := dk_61 (dk_at dksX5_composed_3 19 rfl rfl)
theorem dX5_composed_91 : decode cX5_composed 91 = .ok (.iinc 3 1, 3) := dk_132 3 1 (dk_at dksX5_composed_3 20 rfl rfl)
theorem dX5_composed_94 : decode cX5_composed 94 = .ok (.goto (-70), 3) := dk_167 255 186 (dk_at dksX5_composed_4 0 rfl rfl)
theorem dX5_composed_97 : decode cX5_composed 97 = .ok (.iconst 0, 1) := dk_3 (dk_at dksX5_composed_4 3 rfl rfl)
theorem dX5_composed_98 : decode cX5_composed 98 = .ok (.istore_n 3, 1) := dk_62 (dk_at dksX5_composed_4 4 rfl rfl)
theorem dX5_composed_99 : decode cX5_composed 99 = .ok (.iload_n 3, 1) := dk_29 (dk_at dksX5_composed_4 5 rfl rfl)
theorem dX5_composed_100 : decode cX5_composed 100 = .ok (.aload_n 0, 1) := dk_42 (dk_at dksX5_composed_4 6 rfl rfl)
theorem dX5_composed_101 : decode cX5_composed 101 = .ok (.getfield 153, 3) := dk_180 0 153 (dk_at dksX5_composed_4 7 rfl rfl)
theorem dX5_composed_104 : decode cX5_composed 104 = .ok (.if_icmp .ge 52, 3) := dk_162 0 52 (dk_at dksX5_composed_4 10 rfl rfl)
theorem dX5_composed_107 : decode cX5_composed 107 = .ok (.iload_n 1, 1) := dk_27 (dk_at dksX5_composed_4 13 rfl rfl)
theorem dX5_composed_108 : decode cX5_composed 108 = .ok (.iconst 2, 1) := dk_5 (dk_at dksX5_composed_4 14 rfl rfl)
theorem dX5_composed_109 : decode cX5_composed 109 = .ok (.if_icmp .eq 8, 3) := dk_159 0 8 (dk_at dksX5_composed_4 15 rfl rfl)
theorem dX5_composed_112 : decode cX5_composed 112 = .ok (.iload_n 1, 1) := dk_27 (dk_at dksX5_composed_4 18 rfl rfl)
theorem dX5_composed_113 : decode cX5_composed 113 = .ok (.iconst 3, 1) := dk_6 (dk_at dksX5_composed_4 19 rfl rfl)
theorem dX5_composed_114 : decode cX5_composed 114 = .ok (.if_icmp .ne 42, 3) := dk_160 0 42 (dk_at dksX5_composed_4 20 rfl rfl)
theorem dX5_composed_117 : decode cX5_composed 117 = .ok (.iload_n 2, 1) := dk_28 (dk_at dksX5_composed_4 23 rfl rfl)
theorem dX5_composed_118 : decode cX5_composed 118 = .ok (.iload_n 1, 1) := dk_27 (dk_at dksX5_composed_5 0 rfl rfl)
theorem dX5_composed_119 : decode cX5_composed 119 = .ok (.iconst 2, 1) := dk_5 (dk_at dksX5_composed_5 1 rfl rfl)
theorem dX5_composed_120 : decode cX5_composed 120 = .ok (.if_icmp .eq 13, 3) := dk_159 0 13 (dk_at dksX5_composed_5 2 rfl rfl)
theorem dX5_composed_123 : decode cX5_composed 123 = .ok (.aload_n 0, 1) := dk_42 (dk_at dksX5_composed_5 5 rfl rfl)
theorem dX5_composed_124 : decode cX5_composed 124 = .ok (.getfield 28, 3) := dk_180 0 28 (dk_at dksX5_composed_5 6 rfl rfl)
theorem dX5_composed_127 : decode cX5_composed 127 = .ok (.iload_n 3, 1) := dk_29 (dk_at dksX5_composed_5 9 rfl rfl)
theorem dX5_composed_128 : decode cX5_composed 128 = .ok (.iaload, 1) := dk_46 (dk_at dksX5_composed_5 10 rfl rfl)
theorem dX5_composed_129 : decode cX5_composed 129 = .ok (.iconst 4, 1) := dk_7 (dk_at dksX5_composed_5 11 rfl rfl)
theorem dX5_composed_130 : decode cX5_composed 130 = .ok (.if_icmp .ne 17, 3) := dk_160 0 17 (dk_at dksX5_composed_5 12 rfl rfl)
theorem dX5_composed_133 : decode cX5_composed 133 = .ok (.aload_n 0, 1) := dk_42 (dk_at dksX5_composed_5 15 rfl rfl)
theorem dX5_composed_134 : decode cX5_composed 134 = .ok (.getfield 40, 3) := dk_180 0 40 (dk_at dksX5_composed_5 16 rfl rfl)
theorem dX5_composed_137 : decode cX5_composed 137 = .ok (.aload_n 0, 1) := dk_42 (dk_at dksX5_composed_5 19 rfl rfl)
theorem dX5_composed_138 : decode cX5_composed 138 = .ok (.getfield 22, 3) := dk_180 0 22 (dk_at dksX5_composed_5 20 rfl rfl)
theorem dX5_composed_141 : decode cX5_composed 141 = .ok (.iload_n 3, 1) := dk_29 (dk_at dksX5_composed_5 23 rfl rfl)
theorem dX5_composed_142 : decode cX5_composed 142 = .ok (.iaload, 1) := dk_46 (dk_at dksX5_composed_6 0 rfl rfl)
theorem dX5_composed_143 : decode cX5_composed 143 = .ok (.iaload, 1) := dk_46 (dk_at dksX5_composed_6 1 rfl rfl)
theorem dX5_composed_144 : decode cX5_composed 144 = .ok (.goto 4, 3) := dk_167 0 4 (dk_at dksX5_composed_6 2 rfl rfl)
theorem dX5_composed_147 : decode cX5_composed 147 = .ok (.iconst 0, 1) := dk_3 (dk_at dksX5_composed_6 5 rfl rfl)
theorem dX5_composed_148 : decode cX5_composed 148 = .ok (.iadd, 1) := dk_96 (dk_at dksX5_composed_6 6 rfl rfl)
theorem dX5_composed_149 : decode cX5_composed 149 = .ok (.istore_n 2, 1) := dk_61 (dk_at dksX5_composed_6 7 rfl rfl)
theorem dX5_composed_150 : decode cX5_composed 150 = .ok (.iinc 3 1, 3) := dk_132 3 1 (dk_at dksX5_composed_6 8 rfl rfl)
theorem dX5_composed_153 : decode cX5_composed 153 = .ok (.goto (-54), 3) := dk_167 255 202 (dk_at dksX5_composed_6 11 rfl rfl)
theorem dX5_composed_156 : decode cX5_composed 156 = .ok (.iload_n 2, 1) := dk_28 (dk_at dksX5_composed_6 14 rfl rfl)
theorem dX5_composed_157 : decode cX5_composed 157 = .ok (.ireturn, 1) := dk_172 (dk_at dksX5_composed_6 15 rfl rfl)
abbrev cX5_cheapest : ByteArray := prog_19_method_53_code
def yX5_cheapest : MethodName := ⟨RX5, "cheapest", "(I)I"⟩
def dkwX5_cheapest_0 : List UInt8 := [42, 27, 4, 182, 0, 234, 172]
abbrev dktX5_cheapest_0 : List UInt8 := dkwX5_cheapest_0 ++ []
theorem dksX5_cheapest_0 : cX5_cheapest.data.toList.drop 0 = dktX5_cheapest_0 := by decide +kernel
theorem dX5_cheapest_0 : decode cX5_cheapest 0 = .ok (.aload_n 0, 1) := dk_42 (dk_at dksX5_cheapest_0 0 rfl rfl)
theorem dX5_cheapest_1 : decode cX5_cheapest 1 = .ok (.iload_n 1, 1) := dk_27 (dk_at dksX5_cheapest_0 1 rfl rfl)
theorem dX5_cheapest_2 : decode cX5_cheapest 2 = .ok (.iconst 1, 1) := dk_4 (dk_at dksX5_cheapest_0 2 rfl rfl)
theorem dX5_cheapest_3 : decode cX5_cheapest 3 = .ok (.invokevirtual 234, 3) := dk_182 0 234 (dk_at dksX5_cheapest_0 3 rfl rfl)
theorem dX5_cheapest_6 : decode cX5_cheapest 6 = .ok (.ireturn, 1) := dk_172 (dk_at dksX5_cheapest_0 6 rfl rfl)
abbrev cX5_leastOf : ByteArray := prog_19_method_52_code
def yX5_leastOf : MethodName := ⟨RX5, "leastOf", "(IZ)I"⟩
def dkwX5_leastOf_1 : List UInt8 := [156, 0, 8, 16, 241, 167, 0, 4, 29, 172]
abbrev dktX5_leastOf_1 : List UInt8 := dkwX5_leastOf_1 ++ []
def dkwX5_leastOf_0 : List UInt8 := [27, 184, 0, 99, 154, 0, 6, 16, 245, 172, 42, 27, 182, 0, 170, 42, 28, 182, 0, 230, 62, 29]
abbrev dktX5_leastOf_0 : List UInt8 := dkwX5_leastOf_0 ++ dktX5_leastOf_1
theorem dksX5_leastOf_0 : cX5_leastOf.data.toList.drop 0 = dktX5_leastOf_0 := by decide +kernel
theorem dksX5_leastOf_1 : cX5_leastOf.data.toList.drop 22 = dktX5_leastOf_1 := dk_seg dksX5_leastOf_0 22 rfl rfl
theorem dX5_leastOf_0 : decode cX5_leastOf 0 = .ok (.iload_n 1, 1) := dk_27 (dk_at dksX5_leastOf_0 0 rfl rfl)
theorem dX5_leastOf_1 : decode cX5_leastOf 1 = .ok (.invokestatic 99, 3) := dk_184 0 99 (dk_at dksX5_leastOf_0 1 rfl rfl)
theorem dX5_leastOf_4 : decode cX5_leastOf 4 = .ok (.ifCond .ne 6, 3) := dk_154 0 6 (dk_at dksX5_leastOf_0 4 rfl rfl)
theorem dX5_leastOf_7 : decode cX5_leastOf 7 = .ok (.bipush (-11), 2) := dk_16 245 (dk_at dksX5_leastOf_0 7 rfl rfl)
theorem dX5_leastOf_9 : decode cX5_leastOf 9 = .ok (.ireturn, 1) := dk_172 (dk_at dksX5_leastOf_0 9 rfl rfl)
theorem dX5_leastOf_10 : decode cX5_leastOf 10 = .ok (.aload_n 0, 1) := dk_42 (dk_at dksX5_leastOf_0 10 rfl rfl)
theorem dX5_leastOf_11 : decode cX5_leastOf 11 = .ok (.iload_n 1, 1) := dk_27 (dk_at dksX5_leastOf_0 11 rfl rfl)
theorem dX5_leastOf_12 : decode cX5_leastOf 12 = .ok (.invokevirtual 170, 3) := dk_182 0 170 (dk_at dksX5_leastOf_0 12 rfl rfl)
theorem dX5_leastOf_15 : decode cX5_leastOf 15 = .ok (.aload_n 0, 1) := dk_42 (dk_at dksX5_leastOf_0 15 rfl rfl)
theorem dX5_leastOf_16 : decode cX5_leastOf 16 = .ok (.iload_n 2, 1) := dk_28 (dk_at dksX5_leastOf_0 16 rfl rfl)
theorem dX5_leastOf_17 : decode cX5_leastOf 17 = .ok (.invokevirtual 230, 3) := dk_182 0 230 (dk_at dksX5_leastOf_0 17 rfl rfl)
theorem dX5_leastOf_20 : decode cX5_leastOf 20 = .ok (.istore_n 3, 1) := dk_62 (dk_at dksX5_leastOf_0 20 rfl rfl)
theorem dX5_leastOf_21 : decode cX5_leastOf 21 = .ok (.iload_n 3, 1) := dk_29 (dk_at dksX5_leastOf_0 21 rfl rfl)
theorem dX5_leastOf_22 : decode cX5_leastOf 22 = .ok (.ifCond .ge 8, 3) := dk_156 0 8 (dk_at dksX5_leastOf_1 0 rfl rfl)
theorem dX5_leastOf_25 : decode cX5_leastOf 25 = .ok (.bipush (-15), 2) := dk_16 241 (dk_at dksX5_leastOf_1 3 rfl rfl)
theorem dX5_leastOf_27 : decode cX5_leastOf 27 = .ok (.goto 4, 3) := dk_167 0 4 (dk_at dksX5_leastOf_1 5 rfl rfl)
theorem dX5_leastOf_30 : decode cX5_leastOf 30 = .ok (.iload_n 3, 1) := dk_29 (dk_at dksX5_leastOf_1 8 rfl rfl)
theorem dX5_leastOf_31 : decode cX5_leastOf 31 = .ok (.ireturn, 1) := dk_172 (dk_at dksX5_leastOf_1 9 rfl rfl)
abbrev cX5_leastWay : ByteArray := prog_19_method_51_code
def yX5_leastWay : MethodName := ⟨RX5, "leastWay", "(Z)I"⟩
def dkwX5_leastWay_9 : List UInt8 := [167, 255, 200, 28, 18, 229, 161, 0, 7, 2, 167, 0, 4, 28, 172]
abbrev dktX5_leastWay_9 : List UInt8 := dkwX5_leastWay_9 ++ []
def dkwX5_leastWay_8 : List UInt8 := [180, 0, 37, 29, 46, 155, 0, 14, 21, 4, 28, 162, 0, 8, 21, 4, 167, 0, 4, 28, 61, 132, 3, 1]
abbrev dktX5_leastWay_8 : List UInt8 := dkwX5_leastWay_8 ++ dktX5_leastWay_9
def dkwX5_leastWay_7 : List UInt8 := [180, 0, 65, 29, 46, 27, 153, 0, 12, 42, 180, 0, 37, 29, 46, 167, 0, 4, 3, 96, 54, 4, 42]
abbrev dktX5_leastWay_7 : List UInt8 := dkwX5_leastWay_7 ++ dktX5_leastWay_8
def dkwX5_leastWay_6 : List UInt8 := [167, 255, 160, 132, 2, 1, 167, 255, 144, 18, 229, 61, 3, 62, 29, 42, 180, 0, 156, 162, 0, 54, 42]
abbrev dktX5_leastWay_6 : List UInt8 := dkwX5_leastWay_6 ++ dktX5_leastWay_7
def dkwX5_leastWay_5 : List UInt8 := [46, 162, 0, 8, 21, 4, 167, 0, 14, 42, 180, 0, 65, 42, 180, 0, 25, 29, 46, 46, 79, 132, 3, 1]
abbrev dktX5_leastWay_5 : List UInt8 := dkwX5_leastWay_5 ++ dktX5_leastWay_6
def dkwX5_leastWay_4 : List UInt8 := [54, 4, 42, 180, 0, 65, 42, 180, 0, 25, 29, 46, 21, 4, 42, 180, 0, 65, 42, 180, 0, 25, 29, 46]
abbrev dktX5_leastWay_4 : List UInt8 := dkwX5_leastWay_4 ++ dktX5_leastWay_5
def dkwX5_leastWay_3 : List UInt8 := [180, 0, 34, 29, 46, 167, 0, 18, 42, 180, 0, 28, 29, 46, 7, 160, 0, 7, 3, 167, 0, 4, 4, 96]
abbrev dktX5_leastWay_3 : List UInt8 := dkwX5_leastWay_3 ++ dktX5_leastWay_4
def dkwX5_leastWay_2 : List UInt8 := [180, 0, 153, 162, 0, 94, 42, 180, 0, 65, 42, 180, 0, 22, 29, 46, 46, 27, 153, 0, 12, 42]
abbrev dktX5_leastWay_2 : List UInt8 := dkwX5_leastWay_2 ++ dktX5_leastWay_3
def dkwX5_leastWay_1 : List UInt8 := [18, 229, 79, 132, 2, 1, 167, 255, 229, 3, 61, 28, 42, 180, 0, 156, 162, 0, 110, 3, 62, 29, 42]
abbrev dktX5_leastWay_1 : List UInt8 := dkwX5_leastWay_1 ++ dktX5_leastWay_2
def dkwX5_leastWay_0 : List UInt8 := [3, 61, 28, 42, 180, 0, 156, 162, 0, 25, 42, 180, 0, 65, 28, 28, 154, 0, 7, 3, 167, 0, 5]
abbrev dktX5_leastWay_0 : List UInt8 := dkwX5_leastWay_0 ++ dktX5_leastWay_1
theorem dksX5_leastWay_0 : cX5_leastWay.data.toList.drop 0 = dktX5_leastWay_0 := by decide +kernel
theorem dksX5_leastWay_1 : cX5_leastWay.data.toList.drop 23 = dktX5_leastWay_1 := dk_seg dksX5_leastWay_0 23 rfl rfl
theorem dksX5_leastWay_2 : cX5_leastWay.data.toList.drop 46 = dktX5_leastWay_2 := dk_seg dksX5_leastWay_1 23 rfl rfl
theorem dksX5_leastWay_3 : cX5_leastWay.data.toList.drop 68 = dktX5_leastWay_3 := dk_seg dksX5_leastWay_2 22 rfl rfl
theorem dksX5_leastWay_4 : cX5_leastWay.data.toList.drop 92 = dktX5_leastWay_4 := dk_seg dksX5_leastWay_3 24 rfl rfl
theorem dksX5_leastWay_5 : cX5_leastWay.data.toList.drop 116 = dktX5_leastWay_5 := dk_seg dksX5_leastWay_4 24 rfl rfl
theorem dksX5_leastWay_6 : cX5_leastWay.data.toList.drop 140 = dktX5_leastWay_6 := dk_seg dksX5_leastWay_5 24 rfl rfl
theorem dksX5_leastWay_7 : cX5_leastWay.data.toList.drop 163 = dktX5_leastWay_7 := dk_seg dksX5_leastWay_6 23 rfl rfl
theorem dksX5_leastWay_8 : cX5_leastWay.data.toList.drop 186 = dktX5_leastWay_8 := dk_seg dksX5_leastWay_7 23 rfl rfl
theorem dksX5_leastWay_9 : cX5_leastWay.data.toList.drop 210 = dktX5_leastWay_9 := dk_seg dksX5_leastWay_8 24 rfl rfl
theorem dX5_leastWay_0 : decode cX5_leastWay 0 = .ok (.iconst 0, 1) := dk_3 (dk_at dksX5_leastWay_0 0 rfl rfl)
theorem dX5_leastWay_1 : decode cX5_leastWay 1 = .ok (.istore_n 2, 1) := dk_61 (dk_at dksX5_leastWay_0 1 rfl rfl)
theorem dX5_leastWay_2 : decode cX5_leastWay 2 = .ok (.iload_n 2, 1) := dk_28 (dk_at dksX5_leastWay_0 2 rfl rfl)
theorem dX5_leastWay_3 : decode cX5_leastWay 3 = .ok (.aload_n 0, 1) := dk_42 (dk_at dksX5_leastWay_0 3 rfl rfl)
theorem dX5_leastWay_4 : decode cX5_leastWay 4 = .ok (.getfield 156, 3) := dk_180 0 156 (dk_at dksX5_leastWay_0 4 rfl rfl)
theorem dX5_leastWay_7 : decode cX5_leastWay 7 = .ok (.if_icmp .ge 25, 3) := dk_162 0 25 (dk_at dksX5_leastWay_0 7 rfl rfl)
theorem dX5_leastWay_10 : decode cX5_leastWay 10 = .ok (.aload_n 0, 1) := dk_42 (dk_at dksX5_leastWay_0 10 rfl rfl)
theorem dX5_leastWay_11 : decode cX5_leastWay 11 = .ok (.getfield 65, 3) := dk_180 0 65 (dk_at dksX5_leastWay_0 11 rfl rfl)
theorem dX5_leastWay_14 : decode cX5_leastWay 14 = .ok (.iload_n 2, 1) := dk_28 (dk_at dksX5_leastWay_0 14 rfl rfl)
theorem dX5_leastWay_15 : decode cX5_leastWay 15 = .ok (.iload_n 2, 1) := dk_28 (dk_at dksX5_leastWay_0 15 rfl rfl)
theorem dX5_leastWay_16 : decode cX5_leastWay 16 = .ok (.ifCond .ne 7, 3) := dk_154 0 7 (dk_at dksX5_leastWay_0 16 rfl rfl)
theorem dX5_leastWay_19 : decode cX5_leastWay 19 = .ok (.iconst 0, 1) := dk_3 (dk_at dksX5_leastWay_0 19 rfl rfl)
theorem dX5_leastWay_20 : decode cX5_leastWay 20 = .ok (.goto 5, 3) := dk_167 0 5 (dk_at dksX5_leastWay_0 20 rfl rfl)
theorem dX5_leastWay_23 : decode cX5_leastWay 23 = .ok (.ldc 229, 2) := dk_18 229 (dk_at dksX5_leastWay_1 0 rfl rfl)
theorem dX5_leastWay_25 : decode cX5_leastWay 25 = .ok (.iastore, 1) := dk_79 (dk_at dksX5_leastWay_1 2 rfl rfl)
theorem dX5_leastWay_26 : decode cX5_leastWay 26 = .ok (.iinc 2 1, 3) := dk_132 2 1 (dk_at dksX5_leastWay_1 3 rfl rfl)
theorem dX5_leastWay_29 : decode cX5_leastWay 29 = .ok (.goto (-27), 3) := dk_167 255 229 (dk_at dksX5_leastWay_1 6 rfl rfl)
theorem dX5_leastWay_32 : decode cX5_leastWay 32 = .ok (.iconst 0, 1) := dk_3 (dk_at dksX5_leastWay_1 9 rfl rfl)
theorem dX5_leastWay_33 : decode cX5_leastWay 33 = .ok (.istore_n 2, 1) := dk_61 (dk_at dksX5_leastWay_1 10 rfl rfl)
theorem dX5_leastWay_34 : decode cX5_leastWay 34 = .ok (.iload_n 2, 1) := dk_28 (dk_at dksX5_leastWay_1 11 rfl rfl)
theorem dX5_leastWay_35 : decode cX5_leastWay 35 = .ok (.aload_n 0, 1) := dk_42 (dk_at dksX5_leastWay_1 12 rfl rfl)
theorem dX5_leastWay_36 : decode cX5_leastWay 36 = .ok (.getfield 156, 3) := dk_180 0 156 (dk_at dksX5_leastWay_1 13 rfl rfl)
theorem dX5_leastWay_39 : decode cX5_leastWay 39 = .ok (.if_icmp .ge 110, 3) := dk_162 0 110 (dk_at dksX5_leastWay_1 16 rfl rfl)
theorem dX5_leastWay_42 : decode cX5_leastWay 42 = .ok (.iconst 0, 1) := dk_3 (dk_at dksX5_leastWay_1 19 rfl rfl)
theorem dX5_leastWay_43 : decode cX5_leastWay 43 = .ok (.istore_n 3, 1) := dk_62 (dk_at dksX5_leastWay_1 20 rfl rfl)
theorem dX5_leastWay_44 : decode cX5_leastWay 44 = .ok (.iload_n 3, 1) := dk_29 (dk_at dksX5_leastWay_1 21 rfl rfl)
theorem dX5_leastWay_45 : decode cX5_leastWay 45 = .ok (.aload_n 0, 1) := dk_42 (dk_at dksX5_leastWay_1 22 rfl rfl)
theorem dX5_leastWay_46 : decode cX5_leastWay 46 = .ok (.getfield 153, 3) := dk_180 0 153 (dk_at dksX5_leastWay_2 0 rfl rfl)
theorem dX5_leastWay_49 : decode cX5_leastWay 49 = .ok (.if_icmp .ge 94, 3) := dk_162 0 94 (dk_at dksX5_leastWay_2 3 rfl rfl)
theorem dX5_leastWay_52 : decode cX5_leastWay 52 = .ok (.aload_n 0, 1) := dk_42 (dk_at dksX5_leastWay_2 6 rfl rfl)
theorem dX5_leastWay_53 : decode cX5_leastWay 53 = .ok (.getfield 65, 3) := dk_180 0 65 (dk_at dksX5_leastWay_2 7 rfl rfl)
theorem dX5_leastWay_56 : decode cX5_leastWay 56 = .ok (.aload_n 0, 1) := dk_42 (dk_at dksX5_leastWay_2 10 rfl rfl)
theorem dX5_leastWay_57 : decode cX5_leastWay 57 = .ok (.getfield 22, 3) := dk_180 0 22 (dk_at dksX5_leastWay_2 11 rfl rfl)
theorem dX5_leastWay_60 : decode cX5_leastWay 60 = .ok (.iload_n 3, 1) := dk_29 (dk_at dksX5_leastWay_2 14 rfl rfl)
theorem dX5_leastWay_61 : decode cX5_leastWay 61 = .ok (.iaload, 1) := dk_46 (dk_at dksX5_leastWay_2 15 rfl rfl)
theorem dX5_leastWay_62 : decode cX5_leastWay 62 = .ok (.iaload, 1) := dk_46 (dk_at dksX5_leastWay_2 16 rfl rfl)
theorem dX5_leastWay_63 : decode cX5_leastWay 63 = .ok (.iload_n 1, 1) := dk_27 (dk_at dksX5_leastWay_2 17 rfl rfl)
theorem dX5_leastWay_64 : decode cX5_leastWay 64 = .ok (.ifCond .eq 12, 3) := dk_153 0 12 (dk_at dksX5_leastWay_2 18 rfl rfl)
theorem dX5_leastWay_67 : decode cX5_leastWay 67 = .ok (.aload_n 0, 1) := dk_42 (dk_at dksX5_leastWay_2 21 rfl rfl)
theorem dX5_leastWay_68 : decode cX5_leastWay 68 = .ok (.getfield 34, 3) := dk_180 0 34 (dk_at dksX5_leastWay_3 0 rfl rfl)
theorem dX5_leastWay_71 : decode cX5_leastWay 71 = .ok (.iload_n 3, 1) := dk_29 (dk_at dksX5_leastWay_3 3 rfl rfl)
theorem dX5_leastWay_72 : decode cX5_leastWay 72 = .ok (.iaload, 1) := dk_46 (dk_at dksX5_leastWay_3 4 rfl rfl)
theorem dX5_leastWay_73 : decode cX5_leastWay 73 = .ok (.goto 18, 3) := dk_167 0 18 (dk_at dksX5_leastWay_3 5 rfl rfl)
theorem dX5_leastWay_76 : decode cX5_leastWay 76 = .ok (.aload_n 0, 1) := dk_42 (dk_at dksX5_leastWay_3 8 rfl rfl)
theorem dX5_leastWay_77 : decode cX5_leastWay 77 = .ok (.getfield 28, 3) := dk_180 0 28 (dk_at dksX5_leastWay_3 9 rfl rfl)
theorem dX5_leastWay_80 : decode cX5_leastWay 80 = .ok (.iload_n 3, 1) := dk_29 (dk_at dksX5_leastWay_3 12 rfl rfl)
theorem dX5_leastWay_81 : decode cX5_leastWay 81 = .ok (.iaload, 1) := dk_46 (dk_at dksX5_leastWay_3 13 rfl rfl)
theorem dX5_leastWay_82 : decode cX5_leastWay 82 = .ok (.iconst 4, 1) := dk_7 (dk_at dksX5_leastWay_3 14 rfl rfl)
theorem dX5_leastWay_83 : decode cX5_leastWay 83 = .ok (.if_icmp .ne 7, 3) := dk_160 0 7 (dk_at dksX5_leastWay_3 15 rfl rfl)
theorem dX5_leastWay_86 : decode cX5_leastWay 86 = .ok (.iconst 0, 1) := dk_3 (dk_at dksX5_leastWay_3 18 rfl rfl)
theorem dX5_leastWay_87 : decode cX5_leastWay 87 = .ok (.goto 4, 3) := dk_167 0 4 (dk_at dksX5_leastWay_3 19 rfl rfl)
theorem dX5_leastWay_90 : decode cX5_leastWay 90 = .ok (.iconst 1, 1) := dk_4 (dk_at dksX5_leastWay_3 22 rfl rfl)
theorem dX5_leastWay_91 : decode cX5_leastWay 91 = .ok (.iadd, 1) := dk_96 (dk_at dksX5_leastWay_3 23 rfl rfl)
theorem dX5_leastWay_92 : decode cX5_leastWay 92 = .ok (.istore 4, 2) := dk_54 4 (dk_at dksX5_leastWay_4 0 rfl rfl)
theorem dX5_leastWay_94 : decode cX5_leastWay 94 = .ok (.aload_n 0, 1) := dk_42 (dk_at dksX5_leastWay_4 2 rfl rfl)
theorem dX5_leastWay_95 : decode cX5_leastWay 95 = .ok (.getfield 65, 3) := dk_180 0 65 (dk_at dksX5_leastWay_4 3 rfl rfl)
theorem dX5_leastWay_98 : decode cX5_leastWay 98 = .ok (.aload_n 0, 1) := dk_42 (dk_at dksX5_leastWay_4 6 rfl rfl)
theorem dX5_leastWay_99 : decode cX5_leastWay 99 = .ok (.getfield 25, 3) := dk_180 0 25 (dk_at dksX5_leastWay_4 7 rfl rfl)
theorem dX5_leastWay_102 : decode cX5_leastWay 102 = .ok (.iload_n 3, 1) := dk_29 (dk_at dksX5_leastWay_4 10 rfl rfl)
theorem dX5_leastWay_103 : decode cX5_leastWay 103 = .ok (.iaload, 1) := dk_46 (dk_at dksX5_leastWay_4 11 rfl rfl)
theorem dX5_leastWay_104 : decode cX5_leastWay 104 = .ok (.iload 4, 2) := dk_21 4 (dk_at dksX5_leastWay_4 12 rfl rfl)
theorem dX5_leastWay_106 : decode cX5_leastWay 106 = .ok (.aload_n 0, 1) := dk_42 (dk_at dksX5_leastWay_4 14 rfl rfl)
theorem dX5_leastWay_107 : decode cX5_leastWay 107 = .ok (.getfield 65, 3) := dk_180 0 65 (dk_at dksX5_leastWay_4 15 rfl rfl)
theorem dX5_leastWay_110 : decode cX5_leastWay 110 = .ok (.aload_n 0, 1) := dk_42 (dk_at dksX5_leastWay_4 18 rfl rfl)
theorem dX5_leastWay_111 : decode cX5_leastWay 111 = .ok (.getfield 25, 3) := dk_180 0 25 (dk_at dksX5_leastWay_4 19 rfl rfl)
theorem dX5_leastWay_114 : decode cX5_leastWay 114 = .ok (.iload_n 3, 1) := dk_29 (dk_at dksX5_leastWay_4 22 rfl rfl)
theorem dX5_leastWay_115 : decode cX5_leastWay 115 = .ok (.iaload, 1) := dk_46 (dk_at dksX5_leastWay_4 23 rfl rfl)
theorem dX5_leastWay_116 : decode cX5_leastWay 116 = .ok (.iaload, 1) := dk_46 (dk_at dksX5_leastWay_5 0 rfl rfl)
theorem dX5_leastWay_117 : decode cX5_leastWay 117 = .ok (.if_icmp .ge 8, 3) := dk_162 0 8 (dk_at dksX5_leastWay_5 1 rfl rfl)
theorem dX5_leastWay_120 : decode cX5_leastWay 120 = .ok (.iload 4, 2) := dk_21 4 (dk_at dksX5_leastWay_5 4 rfl rfl)
theorem dX5_leastWay_122 : decode cX5_leastWay 122 = .ok (.goto 14, 3) := dk_167 0 14 (dk_at dksX5_leastWay_5 6 rfl rfl)
theorem dX5_leastWay_125 : decode cX5_leastWay 125 = .ok (.aload_n 0, 1) := dk_42 (dk_at dksX5_leastWay_5 9 rfl rfl)
theorem dX5_leastWay_126 : decode cX5_leastWay 126 = .ok (.getfield 65, 3) := dk_180 0 65 (dk_at dksX5_leastWay_5 10 rfl rfl)
theorem dX5_leastWay_129 : decode cX5_leastWay 129 = .ok (.aload_n 0, 1) := dk_42 (dk_at dksX5_leastWay_5 13 rfl rfl)
theorem dX5_leastWay_130 : decode cX5_leastWay 130 = .ok (.getfield 25, 3) := dk_180 0 25 (dk_at dksX5_leastWay_5 14 rfl rfl)
theorem dX5_leastWay_133 : decode cX5_leastWay 133 = .ok (.iload_n 3, 1) := dk_29 (dk_at dksX5_leastWay_5 17 rfl rfl)
theorem dX5_leastWay_134 : decode cX5_leastWay 134 = .ok (.iaload, 1) := dk_46 (dk_at dksX5_leastWay_5 18 rfl rfl)
theorem dX5_leastWay_135 : decode cX5_leastWay 135 = .ok (.iaload, 1) := dk_46 (dk_at dksX5_leastWay_5 19 rfl rfl)
theorem dX5_leastWay_136 : decode cX5_leastWay 136 = .ok (.iastore, 1) := dk_79 (dk_at dksX5_leastWay_5 20 rfl rfl)
theorem dX5_leastWay_137 : decode cX5_leastWay 137 = .ok (.iinc 3 1, 3) := dk_132 3 1 (dk_at dksX5_leastWay_5 21 rfl rfl)
theorem dX5_leastWay_140 : decode cX5_leastWay 140 = .ok (.goto (-96), 3) := dk_167 255 160 (dk_at dksX5_leastWay_6 0 rfl rfl)
theorem dX5_leastWay_143 : decode cX5_leastWay 143 = .ok (.iinc 2 1, 3) := dk_132 2 1 (dk_at dksX5_leastWay_6 3 rfl rfl)
theorem dX5_leastWay_146 : decode cX5_leastWay 146 = .ok (.goto (-112), 3) := dk_167 255 144 (dk_at dksX5_leastWay_6 6 rfl rfl)
theorem dX5_leastWay_149 : decode cX5_leastWay 149 = .ok (.ldc 229, 2) := dk_18 229 (dk_at dksX5_leastWay_6 9 rfl rfl)
theorem dX5_leastWay_151 : decode cX5_leastWay 151 = .ok (.istore_n 2, 1) := dk_61 (dk_at dksX5_leastWay_6 11 rfl rfl)
theorem dX5_leastWay_152 : decode cX5_leastWay 152 = .ok (.iconst 0, 1) := dk_3 (dk_at dksX5_leastWay_6 12 rfl rfl)
theorem dX5_leastWay_153 : decode cX5_leastWay 153 = .ok (.istore_n 3, 1) := dk_62 (dk_at dksX5_leastWay_6 13 rfl rfl)
theorem dX5_leastWay_154 : decode cX5_leastWay 154 = .ok (.iload_n 3, 1) := dk_29 (dk_at dksX5_leastWay_6 14 rfl rfl)
theorem dX5_leastWay_155 : decode cX5_leastWay 155 = .ok (.aload_n 0, 1) := dk_42 (dk_at dksX5_leastWay_6 15 rfl rfl)
theorem dX5_leastWay_156 : decode cX5_leastWay 156 = .ok (.getfield 156, 3) := dk_180 0 156 (dk_at dksX5_leastWay_6 16 rfl rfl)
theorem dX5_leastWay_159 : decode cX5_leastWay 159 = .ok (.if_icmp .ge 54, 3) := dk_162 0 54 (dk_at dksX5_leastWay_6 19 rfl rfl)
theorem dX5_leastWay_162 : decode cX5_leastWay 162 = .ok (.aload_n 0, 1) := dk_42 (dk_at dksX5_leastWay_6 22 rfl rfl)
theorem dX5_leastWay_163 : decode cX5_leastWay 163 = .ok (.getfield 65, 3) := dk_180 0 65 (dk_at dksX5_leastWay_7 0 rfl rfl)
theorem dX5_leastWay_166 : decode cX5_leastWay 166 = .ok (.iload_n 3, 1) := dk_29 (dk_at dksX5_leastWay_7 3 rfl rfl)
theorem dX5_leastWay_167 : decode cX5_leastWay 167 = .ok (.iaload, 1) := dk_46 (dk_at dksX5_leastWay_7 4 rfl rfl)
theorem dX5_leastWay_168 : decode cX5_leastWay 168 = .ok (.iload_n 1, 1) := dk_27 (dk_at dksX5_leastWay_7 5 rfl rfl)
theorem dX5_leastWay_169 : decode cX5_leastWay 169 = .ok (.ifCond .eq 12, 3) := dk_153 0 12 (dk_at dksX5_leastWay_7 6 rfl rfl)
theorem dX5_leastWay_172 : decode cX5_leastWay 172 = .ok (.aload_n 0, 1) := dk_42 (dk_at dksX5_leastWay_7 9 rfl rfl)
theorem dX5_leastWay_173 : decode cX5_leastWay 173 = .ok (.getfield 37, 3) := dk_180 0 37 (dk_at dksX5_leastWay_7 10 rfl rfl)
theorem dX5_leastWay_176 : decode cX5_leastWay 176 = .ok (.iload_n 3, 1) := dk_29 (dk_at dksX5_leastWay_7 13 rfl rfl)
theorem dX5_leastWay_177 : decode cX5_leastWay 177 = .ok (.iaload, 1) := dk_46 (dk_at dksX5_leastWay_7 14 rfl rfl)
theorem dX5_leastWay_178 : decode cX5_leastWay 178 = .ok (.goto 4, 3) := dk_167 0 4 (dk_at dksX5_leastWay_7 15 rfl rfl)
theorem dX5_leastWay_181 : decode cX5_leastWay 181 = .ok (.iconst 0, 1) := dk_3 (dk_at dksX5_leastWay_7 18 rfl rfl)
theorem dX5_leastWay_182 : decode cX5_leastWay 182 = .ok (.iadd, 1) := dk_96 (dk_at dksX5_leastWay_7 19 rfl rfl)
theorem dX5_leastWay_183 : decode cX5_leastWay 183 = .ok (.istore 4, 2) := dk_54 4 (dk_at dksX5_leastWay_7 20 rfl rfl)
theorem dX5_leastWay_185 : decode cX5_leastWay 185 = .ok (.aload_n 0, 1) := dk_42 (dk_at dksX5_leastWay_7 22 rfl rfl)
theorem dX5_leastWay_186 : decode cX5_leastWay 186 = .ok (.getfield 37, 3) := dk_180 0 37 (dk_at dksX5_leastWay_8 0 rfl rfl)
theorem dX5_leastWay_189 : decode cX5_leastWay 189 = .ok (.iload_n 3, 1) := dk_29 (dk_at dksX5_leastWay_8 3 rfl rfl)
theorem dX5_leastWay_190 : decode cX5_leastWay 190 = .ok (.iaload, 1) := dk_46 (dk_at dksX5_leastWay_8 4 rfl rfl)
theorem dX5_leastWay_191 : decode cX5_leastWay 191 = .ok (.ifCond .lt 14, 3) := dk_155 0 14 (dk_at dksX5_leastWay_8 5 rfl rfl)
theorem dX5_leastWay_194 : decode cX5_leastWay 194 = .ok (.iload 4, 2) := dk_21 4 (dk_at dksX5_leastWay_8 8 rfl rfl)
theorem dX5_leastWay_196 : decode cX5_leastWay 196 = .ok (.iload_n 2, 1) := dk_28 (dk_at dksX5_leastWay_8 10 rfl rfl)
theorem dX5_leastWay_197 : decode cX5_leastWay 197 = .ok (.if_icmp .ge 8, 3) := dk_162 0 8 (dk_at dksX5_leastWay_8 11 rfl rfl)
theorem dX5_leastWay_200 : decode cX5_leastWay 200 = .ok (.iload 4, 2) := dk_21 4 (dk_at dksX5_leastWay_8 14 rfl rfl)
theorem dX5_leastWay_202 : decode cX5_leastWay 202 = .ok (.goto 4, 3) := dk_167 0 4 (dk_at dksX5_leastWay_8 16 rfl rfl)
theorem dX5_leastWay_205 : decode cX5_leastWay 205 = .ok (.iload_n 2, 1) := dk_28 (dk_at dksX5_leastWay_8 19 rfl rfl)
theorem dX5_leastWay_206 : decode cX5_leastWay 206 = .ok (.istore_n 2, 1) := dk_61 (dk_at dksX5_leastWay_8 20 rfl rfl)
theorem dX5_leastWay_207 : decode cX5_leastWay 207 = .ok (.iinc 3 1, 3) := dk_132 3 1 (dk_at dksX5_leastWay_8 21 rfl rfl)
theorem dX5_leastWay_210 : decode cX5_leastWay 210 = .ok (.goto (-56), 3) := dk_167 255 200 (dk_at dksX5_leastWay_9 0 rfl rfl)
theorem dX5_leastWay_213 : decode cX5_leastWay 213 = .ok (.iload_n 2, 1) := dk_28 (dk_at dksX5_leastWay_9 3 rfl rfl)
theorem dX5_leastWay_214 : decode cX5_leastWay 214 = .ok (.ldc 229, 2) := dk_18 229 (dk_at dksX5_leastWay_9 4 rfl rfl)
theorem dX5_leastWay_216 : decode cX5_leastWay 216 = .ok (.if_icmp .lt 7, 3) := dk_161 0 7 (dk_at dksX5_leastWay_9 6 rfl rfl)
theorem dX5_leastWay_219 : decode cX5_leastWay 219 = .ok (.iconst (-1), 1) := dk_2 (dk_at dksX5_leastWay_9 9 rfl rfl)
theorem dX5_leastWay_220 : decode cX5_leastWay 220 = .ok (.goto 4, 3) := dk_167 0 4 (dk_at dksX5_leastWay_9 10 rfl rfl)
theorem dX5_leastWay_223 : decode cX5_leastWay 223 = .ok (.iload_n 2, 1) := dk_28 (dk_at dksX5_leastWay_9 13 rfl rfl)
theorem dX5_leastWay_224 : decode cX5_leastWay 224 = .ok (.ireturn, 1) := dk_172 (dk_at dksX5_leastWay_9 14 rfl rfl)
abbrev cX5_shortest : ByteArray := prog_19_method_54_code
def yX5_shortest : MethodName := ⟨RX5, "shortest", "(I)I"⟩
def dkwX5_shortest_0 : List UInt8 := [42, 27, 3, 182, 0, 234, 172]
abbrev dktX5_shortest_0 : List UInt8 := dkwX5_shortest_0 ++ []
theorem dksX5_shortest_0 : cX5_shortest.data.toList.drop 0 = dktX5_shortest_0 := by decide +kernel
theorem dX5_shortest_0 : decode cX5_shortest 0 = .ok (.aload_n 0, 1) := dk_42 (dk_at dksX5_shortest_0 0 rfl rfl)
theorem dX5_shortest_1 : decode cX5_shortest 1 = .ok (.iload_n 1, 1) := dk_27 (dk_at dksX5_shortest_0 1 rfl rfl)
theorem dX5_shortest_2 : decode cX5_shortest 2 = .ok (.iconst 0, 1) := dk_3 (dk_at dksX5_shortest_0 2 rfl rfl)
theorem dX5_shortest_3 : decode cX5_shortest 3 = .ok (.invokevirtual 234, 3) := dk_182 0 234 (dk_at dksX5_shortest_0 3 rfl rfl)
theorem dX5_shortest_6 : decode cX5_shortest 6 = .ok (.ireturn, 1) := dk_172 (dk_at dksX5_shortest_0 6 rfl rfl)
abbrev cX5_breathes : ByteArray := prog_19_method_55_code
def yX5_breathes : MethodName := ⟨RX5, "breathes", "(I)I"⟩
def dkwX5_breathes_3 : List UInt8 := [153, 0, 7, 4, 167, 0, 4, 3, 172]
abbrev dktX5_breathes_3 : List UInt8 := dkwX5_breathes_3 ++ []
def dkwX5_breathes_2 : List UInt8 := [29, 122, 4, 126, 4, 160, 0, 7, 4, 167, 0, 4, 3, 128, 61, 132, 3, 1, 167, 255, 213, 28]
abbrev dktX5_breathes_2 : List UInt8 := dkwX5_breathes_2 ++ dktX5_breathes_3
def dkwX5_breathes_1 : List UInt8 := [42, 180, 0, 156, 162, 0, 41, 28, 42, 180, 0, 43, 29, 46, 4, 160, 0, 21, 42, 29, 3, 182, 0, 180]
abbrev dktX5_breathes_1 : List UInt8 := dkwX5_breathes_1 ++ dktX5_breathes_2
def dkwX5_breathes_0 : List UInt8 := [27, 184, 0, 99, 154, 0, 6, 16, 245, 172, 42, 27, 182, 0, 170, 42, 182, 0, 173, 3, 61, 3, 62, 29]
abbrev dktX5_breathes_0 : List UInt8 := dkwX5_breathes_0 ++ dktX5_breathes_1
theorem dksX5_breathes_0 : cX5_breathes.data.toList.drop 0 = dktX5_breathes_0 := by decide +kernel
theorem dksX5_breathes_1 : cX5_breathes.data.toList.drop 24 = dktX5_breathes_1 := dk_seg dksX5_breathes_0 24 rfl rfl
theorem dksX5_breathes_2 : cX5_breathes.data.toList.drop 48 = dktX5_breathes_2 := dk_seg dksX5_breathes_1 24 rfl rfl
theorem dksX5_breathes_3 : cX5_breathes.data.toList.drop 70 = dktX5_breathes_3 := dk_seg dksX5_breathes_2 22 rfl rfl
theorem dX5_breathes_0 : decode cX5_breathes 0 = .ok (.iload_n 1, 1) := dk_27 (dk_at dksX5_breathes_0 0 rfl rfl)
theorem dX5_breathes_1 : decode cX5_breathes 1 = .ok (.invokestatic 99, 3) := dk_184 0 99 (dk_at dksX5_breathes_0 1 rfl rfl)
theorem dX5_breathes_4 : decode cX5_breathes 4 = .ok (.ifCond .ne 6, 3) := dk_154 0 6 (dk_at dksX5_breathes_0 4 rfl rfl)
theorem dX5_breathes_7 : decode cX5_breathes 7 = .ok (.bipush (-11), 2) := dk_16 245 (dk_at dksX5_breathes_0 7 rfl rfl)
theorem dX5_breathes_9 : decode cX5_breathes 9 = .ok (.ireturn, 1) := dk_172 (dk_at dksX5_breathes_0 9 rfl rfl)
theorem dX5_breathes_10 : decode cX5_breathes 10 = .ok (.aload_n 0, 1) := dk_42 (dk_at dksX5_breathes_0 10 rfl rfl)
theorem dX5_breathes_11 : decode cX5_breathes 11 = .ok (.iload_n 1, 1) := dk_27 (dk_at dksX5_breathes_0 11 rfl rfl)
theorem dX5_breathes_12 : decode cX5_breathes 12 = .ok (.invokevirtual 170, 3) := dk_182 0 170 (dk_at dksX5_breathes_0 12 rfl rfl)
theorem dX5_breathes_15 : decode cX5_breathes 15 = .ok (.aload_n 0, 1) := dk_42 (dk_at dksX5_breathes_0 15 rfl rfl)
theorem dX5_breathes_16 : decode cX5_breathes 16 = .ok (.invokevirtual 173, 3) := dk_182 0 173 (dk_at dksX5_breathes_0 16 rfl rfl)
theorem dX5_breathes_19 : decode cX5_breathes 19 = .ok (.iconst 0, 1) := dk_3 (dk_at dksX5_breathes_0 19 rfl rfl)
theorem dX5_breathes_20 : decode cX5_breathes 20 = .ok (.istore_n 2, 1) := dk_61 (dk_at dksX5_breathes_0 20 rfl rfl)
theorem dX5_breathes_21 : decode cX5_breathes 21 = .ok (.iconst 0, 1) := dk_3 (dk_at dksX5_breathes_0 21 rfl rfl)
theorem dX5_breathes_22 : decode cX5_breathes 22 = .ok (.istore_n 3, 1) := dk_62 (dk_at dksX5_breathes_0 22 rfl rfl)
theorem dX5_breathes_23 : decode cX5_breathes 23 = .ok (.iload_n 3, 1) := dk_29 (dk_at dksX5_breathes_0 23 rfl rfl)
theorem dX5_breathes_24 : decode cX5_breathes 24 = .ok (.aload_n 0, 1) := dk_42 (dk_at dksX5_breathes_1 0 rfl rfl)
theorem dX5_breathes_25 : decode cX5_breathes 25 = .ok (.getfield 156, 3) := dk_180 0 156 (dk_at dksX5_breathes_1 1 rfl rfl)
theorem dX5_breathes_28 : decode cX5_breathes 28 = .ok (.if_icmp .ge 41, 3) := dk_162 0 41 (dk_at dksX5_breathes_1 4 rfl rfl)
theorem dX5_breathes_31 : decode cX5_breathes 31 = .ok (.iload_n 2, 1) := dk_28 (dk_at dksX5_breathes_1 7 rfl rfl)
theorem dX5_breathes_32 : decode cX5_breathes 32 = .ok (.aload_n 0, 1) := dk_42 (dk_at dksX5_breathes_1 8 rfl rfl)
theorem dX5_breathes_33 : decode cX5_breathes 33 = .ok (.getfield 43, 3) := dk_180 0 43 (dk_at dksX5_breathes_1 9 rfl rfl)
theorem dX5_breathes_36 : decode cX5_breathes 36 = .ok (.iload_n 3, 1) := dk_29 (dk_at dksX5_breathes_1 12 rfl rfl)
theorem dX5_breathes_37 : decode cX5_breathes 37 = .ok (.iaload, 1) := dk_46 (dk_at dksX5_breathes_1 13 rfl rfl)
theorem dX5_breathes_38 : decode cX5_breathes 38 = .ok (.iconst 1, 1) := dk_4 (dk_at dksX5_breathes_1 14 rfl rfl)
theorem dX5_breathes_39 : decode cX5_breathes 39 = .ok (.if_icmp .ne 21, 3) := dk_160 0 21 (dk_at dksX5_breathes_1 15 rfl rfl)
theorem dX5_breathes_42 : decode cX5_breathes 42 = .ok (.aload_n 0, 1) := dk_42 (dk_at dksX5_breathes_1 18 rfl rfl)
theorem dX5_breathes_43 : decode cX5_breathes 43 = .ok (.iload_n 3, 1) := dk_29 (dk_at dksX5_breathes_1 19 rfl rfl)
theorem dX5_breathes_44 : decode cX5_breathes 44 = .ok (.iconst 0, 1) := dk_3 (dk_at dksX5_breathes_1 20 rfl rfl)
theorem dX5_breathes_45 : decode cX5_breathes 45 = .ok (.invokevirtual 180, 3) := dk_182 0 180 (dk_at dksX5_breathes_1 21 rfl rfl)
theorem dX5_breathes_48 : decode cX5_breathes 48 = .ok (.iload_n 3, 1) := dk_29 (dk_at dksX5_breathes_2 0 rfl rfl)
theorem dX5_breathes_49 : decode cX5_breathes 49 = .ok (.ishr, 1) := dk_122 (dk_at dksX5_breathes_2 1 rfl rfl)
theorem dX5_breathes_50 : decode cX5_breathes 50 = .ok (.iconst 1, 1) := dk_4 (dk_at dksX5_breathes_2 2 rfl rfl)
theorem dX5_breathes_51 : decode cX5_breathes 51 = .ok (.iand, 1) := dk_126 (dk_at dksX5_breathes_2 3 rfl rfl)
theorem dX5_breathes_52 : decode cX5_breathes 52 = .ok (.iconst 1, 1) := dk_4 (dk_at dksX5_breathes_2 4 rfl rfl)
theorem dX5_breathes_53 : decode cX5_breathes 53 = .ok (.if_icmp .ne 7, 3) := dk_160 0 7 (dk_at dksX5_breathes_2 5 rfl rfl)
theorem dX5_breathes_56 : decode cX5_breathes 56 = .ok (.iconst 1, 1) := dk_4 (dk_at dksX5_breathes_2 8 rfl rfl)
theorem dX5_breathes_57 : decode cX5_breathes 57 = .ok (.goto 4, 3) := dk_167 0 4 (dk_at dksX5_breathes_2 9 rfl rfl)
theorem dX5_breathes_60 : decode cX5_breathes 60 = .ok (.iconst 0, 1) := dk_3 (dk_at dksX5_breathes_2 12 rfl rfl)
theorem dX5_breathes_61 : decode cX5_breathes 61 = .ok (.ior, 1) := dk_128 (dk_at dksX5_breathes_2 13 rfl rfl)
theorem dX5_breathes_62 : decode cX5_breathes 62 = .ok (.istore_n 2, 1) := dk_61 (dk_at dksX5_breathes_2 14 rfl rfl)
theorem dX5_breathes_63 : decode cX5_breathes 63 = .ok (.iinc 3 1, 3) := dk_132 3 1 (dk_at dksX5_breathes_2 15 rfl rfl)
theorem dX5_breathes_66 : decode cX5_breathes 66 = .ok (.goto (-43), 3) := dk_167 255 213 (dk_at dksX5_breathes_2 18 rfl rfl)
theorem dX5_breathes_69 : decode cX5_breathes 69 = .ok (.iload_n 2, 1) := dk_28 (dk_at dksX5_breathes_2 21 rfl rfl)
theorem dX5_breathes_70 : decode cX5_breathes 70 = .ok (.ifCond .eq 7, 3) := dk_153 0 7 (dk_at dksX5_breathes_3 0 rfl rfl)
theorem dX5_breathes_73 : decode cX5_breathes 73 = .ok (.iconst 1, 1) := dk_4 (dk_at dksX5_breathes_3 3 rfl rfl)
theorem dX5_breathes_74 : decode cX5_breathes 74 = .ok (.goto 4, 3) := dk_167 0 4 (dk_at dksX5_breathes_3 4 rfl rfl)
theorem dX5_breathes_77 : decode cX5_breathes 77 = .ok (.iconst 0, 1) := dk_3 (dk_at dksX5_breathes_3 7 rfl rfl)
theorem dX5_breathes_78 : decode cX5_breathes 78 = .ok (.ireturn, 1) := dk_172 (dk_at dksX5_breathes_3 8 rfl rfl)
abbrev cX5_ranked : ByteArray := prog_19_method_57_code
def yX5_ranked : MethodName := ⟨RX5, "ranked", "(II)I"⟩
def dkwX5_ranked_3 : List UInt8 := [132, 5, 1, 167, 255, 213, 21, 4, 28, 160, 0, 5, 29, 172, 132, 3, 1, 167, 255, 181, 16, 245, 172]
abbrev dktX5_ranked_3 : List UInt8 := dkwX5_ranked_3 ++ []
def dkwX5_ranked_2 : List UInt8 := [159, 0, 18, 42, 27, 21, 5, 29, 182, 0, 237, 153, 0, 7, 4, 167, 0, 4, 3, 96, 54, 4]
abbrev dktX5_ranked_2 : List UInt8 := dkwX5_ranked_2 ++ dktX5_ranked_3
def dkwX5_ranked_1 : List UInt8 := [3, 54, 4, 3, 54, 5, 21, 5, 42, 180, 0, 7, 5, 27, 96, 46, 162, 0, 36, 21, 4, 21, 5, 29]
abbrev dktX5_ranked_1 : List UInt8 := dkwX5_ranked_1 ++ dktX5_ranked_2
def dkwX5_ranked_0 : List UInt8 := [27, 184, 0, 99, 154, 0, 6, 16, 245, 172, 3, 62, 29, 42, 180, 0, 7, 5, 27, 96, 46, 162, 0, 69]
abbrev dktX5_ranked_0 : List UInt8 := dkwX5_ranked_0 ++ dktX5_ranked_1
theorem dksX5_ranked_0 : cX5_ranked.data.toList.drop 0 = dktX5_ranked_0 := by decide +kernel
theorem dksX5_ranked_1 : cX5_ranked.data.toList.drop 24 = dktX5_ranked_1 := dk_seg dksX5_ranked_0 24 rfl rfl
theorem dksX5_ranked_2 : cX5_ranked.data.toList.drop 48 = dktX5_ranked_2 := dk_seg dksX5_ranked_1 24 rfl rfl
theorem dksX5_ranked_3 : cX5_ranked.data.toList.drop 70 = dktX5_ranked_3 := dk_seg dksX5_ranked_2 22 rfl rfl
theorem dX5_ranked_0 : decode cX5_ranked 0 = .ok (.iload_n 1, 1) := dk_27 (dk_at dksX5_ranked_0 0 rfl rfl)
theorem dX5_ranked_1 : decode cX5_ranked 1 = .ok (.invokestatic 99, 3) := dk_184 0 99 (dk_at dksX5_ranked_0 1 rfl rfl)
theorem dX5_ranked_4 : decode cX5_ranked 4 = .ok (.ifCond .ne 6, 3) := dk_154 0 6 (dk_at dksX5_ranked_0 4 rfl rfl)
theorem dX5_ranked_7 : decode cX5_ranked 7 = .ok (.bipush (-11), 2) := dk_16 245 (dk_at dksX5_ranked_0 7 rfl rfl)
theorem dX5_ranked_9 : decode cX5_ranked 9 = .ok (.ireturn, 1) := dk_172 (dk_at dksX5_ranked_0 9 rfl rfl)
theorem dX5_ranked_10 : decode cX5_ranked 10 = .ok (.iconst 0, 1) := dk_3 (dk_at dksX5_ranked_0 10 rfl rfl)
theorem dX5_ranked_11 : decode cX5_ranked 11 = .ok (.istore_n 3, 1) := dk_62 (dk_at dksX5_ranked_0 11 rfl rfl)
theorem dX5_ranked_12 : decode cX5_ranked 12 = .ok (.iload_n 3, 1) := dk_29 (dk_at dksX5_ranked_0 12 rfl rfl)
theorem dX5_ranked_13 : decode cX5_ranked 13 = .ok (.aload_n 0, 1) := dk_42 (dk_at dksX5_ranked_0 13 rfl rfl)
theorem dX5_ranked_14 : decode cX5_ranked 14 = .ok (.getfield 7, 3) := dk_180 0 7 (dk_at dksX5_ranked_0 14 rfl rfl)
theorem dX5_ranked_17 : decode cX5_ranked 17 = .ok (.iconst 2, 1) := dk_5 (dk_at dksX5_ranked_0 17 rfl rfl)
theorem dX5_ranked_18 : decode cX5_ranked 18 = .ok (.iload_n 1, 1) := dk_27 (dk_at dksX5_ranked_0 18 rfl rfl)
theorem dX5_ranked_19 : decode cX5_ranked 19 = .ok (.iadd, 1) := dk_96 (dk_at dksX5_ranked_0 19 rfl rfl)
theorem dX5_ranked_20 : decode cX5_ranked 20 = .ok (.iaload, 1) := dk_46 (dk_at dksX5_ranked_0 20 rfl rfl)
theorem dX5_ranked_21 : decode cX5_ranked 21 = .ok (.if_icmp .ge 69, 3) := dk_162 0 69 (dk_at dksX5_ranked_0 21 rfl rfl)
theorem dX5_ranked_24 : decode cX5_ranked 24 = .ok (.iconst 0, 1) := dk_3 (dk_at dksX5_ranked_1 0 rfl rfl)
theorem dX5_ranked_25 : decode cX5_ranked 25 = .ok (.istore 4, 2) := dk_54 4 (dk_at dksX5_ranked_1 1 rfl rfl)
theorem dX5_ranked_27 : decode cX5_ranked 27 = .ok (.iconst 0, 1) := dk_3 (dk_at dksX5_ranked_1 3 rfl rfl)
theorem dX5_ranked_28 : decode cX5_ranked 28 = .ok (.istore 5, 2) := dk_54 5 (dk_at dksX5_ranked_1 4 rfl rfl)
theorem dX5_ranked_30 : decode cX5_ranked 30 = .ok (.iload 5, 2) := dk_21 5 (dk_at dksX5_ranked_1 6 rfl rfl)
theorem dX5_ranked_32 : decode cX5_ranked 32 = .ok (.aload_n 0, 1) := dk_42 (dk_at dksX5_ranked_1 8 rfl rfl)
theorem dX5_ranked_33 : decode cX5_ranked 33 = .ok (.getfield 7, 3) := dk_180 0 7 (dk_at dksX5_ranked_1 9 rfl rfl)
theorem dX5_ranked_36 : decode cX5_ranked 36 = .ok (.iconst 2, 1) := dk_5 (dk_at dksX5_ranked_1 12 rfl rfl)
theorem dX5_ranked_37 : decode cX5_ranked 37 = .ok (.iload_n 1, 1) := dk_27 (dk_at dksX5_ranked_1 13 rfl rfl)
theorem dX5_ranked_38 : decode cX5_ranked 38 = .ok (.iadd, 1) := dk_96 (dk_at dksX5_ranked_1 14 rfl rfl)
theorem dX5_ranked_39 : decode cX5_ranked 39 = .ok (.iaload, 1) := dk_46 (dk_at dksX5_ranked_1 15 rfl rfl)
theorem dX5_ranked_40 : decode cX5_ranked 40 = .ok (.if_icmp .ge 36, 3) := dk_162 0 36 (dk_at dksX5_ranked_1 16 rfl rfl)
theorem dX5_ranked_43 : decode cX5_ranked 43 = .ok (.iload 4, 2) := dk_21 4 (dk_at dksX5_ranked_1 19 rfl rfl)
theorem dX5_ranked_45 : decode cX5_ranked 45 = .ok (.iload 5, 2) := dk_21 5 (dk_at dksX5_ranked_1 21 rfl rfl)
theorem dX5_ranked_47 : decode cX5_ranked 47 = .ok (.iload_n 3, 1) := dk_29 (dk_at dksX5_ranked_1 23 rfl rfl)
theorem dX5_ranked_48 : decode cX5_ranked 48 = .ok (.if_icmp .eq 18, 3) := dk_159 0 18 (dk_at dksX5_ranked_2 0 rfl rfl)
theorem dX5_ranked_51 : decode cX5_ranked 51 = .ok (.aload_n 0, 1) := dk_42 (dk_at dksX5_ranked_2 3 rfl rfl)
theorem dX5_ranked_52 : decode cX5_ranked 52 = .ok (.iload_n 1, 1) := dk_27 (dk_at dksX5_ranked_2 4 rfl rfl)
theorem dX5_ranked_53 : decode cX5_ranked 53 = .ok (.iload 5, 2) := dk_21 5 (dk_at dksX5_ranked_2 5 rfl rfl)
theorem dX5_ranked_55 : decode cX5_ranked 55 = .ok (.iload_n 3, 1) := dk_29 (dk_at dksX5_ranked_2 7 rfl rfl)
theorem dX5_ranked_56 : decode cX5_ranked 56 = .ok (.invokevirtual 237, 3) := dk_182 0 237 (dk_at dksX5_ranked_2 8 rfl rfl)
theorem dX5_ranked_59 : decode cX5_ranked 59 = .ok (.ifCond .eq 7, 3) := dk_153 0 7 (dk_at dksX5_ranked_2 11 rfl rfl)
theorem dX5_ranked_62 : decode cX5_ranked 62 = .ok (.iconst 1, 1) := dk_4 (dk_at dksX5_ranked_2 14 rfl rfl)
theorem dX5_ranked_63 : decode cX5_ranked 63 = .ok (.goto 4, 3) := dk_167 0 4 (dk_at dksX5_ranked_2 15 rfl rfl)
theorem dX5_ranked_66 : decode cX5_ranked 66 = .ok (.iconst 0, 1) := dk_3 (dk_at dksX5_ranked_2 18 rfl rfl)
theorem dX5_ranked_67 : decode cX5_ranked 67 = .ok (.iadd, 1) := dk_96 (dk_at dksX5_ranked_2 19 rfl rfl)
theorem dX5_ranked_68 : decode cX5_ranked 68 = .ok (.istore 4, 2) := dk_54 4 (dk_at dksX5_ranked_2 20 rfl rfl)
theorem dX5_ranked_70 : decode cX5_ranked 70 = .ok (.iinc 5 1, 3) := dk_132 5 1 (dk_at dksX5_ranked_3 0 rfl rfl)
theorem dX5_ranked_73 : decode cX5_ranked 73 = .ok (.goto (-43), 3) := dk_167 255 213 (dk_at dksX5_ranked_3 3 rfl rfl)
theorem dX5_ranked_76 : decode cX5_ranked 76 = .ok (.iload 4, 2) := dk_21 4 (dk_at dksX5_ranked_3 6 rfl rfl)
theorem dX5_ranked_78 : decode cX5_ranked 78 = .ok (.iload_n 2, 1) := dk_28 (dk_at dksX5_ranked_3 8 rfl rfl)
theorem dX5_ranked_79 : decode cX5_ranked 79 = .ok (.if_icmp .ne 5, 3) := dk_160 0 5 (dk_at dksX5_ranked_3 9 rfl rfl)
theorem dX5_ranked_82 : decode cX5_ranked 82 = .ok (.iload_n 3, 1) := dk_29 (dk_at dksX5_ranked_3 12 rfl rfl)
theorem dX5_ranked_83 : decode cX5_ranked 83 = .ok (.ireturn, 1) := dk_172 (dk_at dksX5_ranked_3 13 rfl rfl)
theorem dX5_ranked_84 : decode cX5_ranked 84 = .ok (.iinc 3 1, 3) := dk_132 3 1 (dk_at dksX5_ranked_3 14 rfl rfl)
theorem dX5_ranked_87 : decode cX5_ranked 87 = .ok (.goto (-75), 3) := dk_167 255 181 (dk_at dksX5_ranked_3 17 rfl rfl)
theorem dX5_ranked_90 : decode cX5_ranked 90 = .ok (.bipush (-11), 2) := dk_16 245 (dk_at dksX5_ranked_3 20 rfl rfl)
theorem dX5_ranked_92 : decode cX5_ranked 92 = .ok (.ireturn, 1) := dk_172 (dk_at dksX5_ranked_3 22 rfl rfl)
abbrev cX5_isAhead : ByteArray := prog_19_method_56_code
def yX5_isAhead : MethodName := ⟨RX5, "isAhead", "(III)Z"⟩
def dkwX5_isAhead_4 : List UInt8 := [21, 4, 157, 0, 13, 21, 4, 154, 0, 12, 28, 29, 162, 0, 7, 4, 167, 0, 4, 3, 172]
abbrev dktX5_isAhead_4 : List UInt8 := dkwX5_isAhead_4 ++ []
def dkwX5_isAhead_3 : List UInt8 := [180, 0, 7, 27, 29, 4, 184, 0, 130, 46, 42, 180, 0, 7, 27, 28, 4, 184, 0, 130, 46, 100, 54, 4]
abbrev dktX5_isAhead_3 : List UInt8 := dkwX5_isAhead_3 ++ dktX5_isAhead_4
def dkwX5_isAhead_2 : List UInt8 := [180, 0, 7, 27, 28, 3, 184, 0, 130, 46, 100, 54, 4, 21, 4, 153, 0, 8, 21, 4, 167, 0, 26, 42]
abbrev dktX5_isAhead_2 : List UInt8 := dkwX5_isAhead_2 ++ dktX5_isAhead_3
def dkwX5_isAhead_1 : List UInt8 := [54, 4, 21, 4, 153, 0, 8, 21, 4, 167, 0, 26, 42, 180, 0, 7, 27, 29, 3, 184, 0, 130, 46, 42]
abbrev dktX5_isAhead_1 : List UInt8 := dkwX5_isAhead_1 ++ dktX5_isAhead_2
def dkwX5_isAhead_0 : List UInt8 := [42, 180, 0, 7, 27, 28, 7, 184, 0, 130, 46, 42, 180, 0, 7, 27, 29, 7, 184, 0, 130, 46, 100]
abbrev dktX5_isAhead_0 : List UInt8 := dkwX5_isAhead_0 ++ dktX5_isAhead_1
theorem dksX5_isAhead_0 : cX5_isAhead.data.toList.drop 0 = dktX5_isAhead_0 := by decide +kernel
theorem dksX5_isAhead_1 : cX5_isAhead.data.toList.drop 23 = dktX5_isAhead_1 := dk_seg dksX5_isAhead_0 23 rfl rfl
theorem dksX5_isAhead_2 : cX5_isAhead.data.toList.drop 47 = dktX5_isAhead_2 := dk_seg dksX5_isAhead_1 24 rfl rfl
theorem dksX5_isAhead_3 : cX5_isAhead.data.toList.drop 71 = dktX5_isAhead_3 := dk_seg dksX5_isAhead_2 24 rfl rfl
theorem dksX5_isAhead_4 : cX5_isAhead.data.toList.drop 95 = dktX5_isAhead_4 := dk_seg dksX5_isAhead_3 24 rfl rfl
theorem dX5_isAhead_0 : decode cX5_isAhead 0 = .ok (.aload_n 0, 1) := dk_42 (dk_at dksX5_isAhead_0 0 rfl rfl)
theorem dX5_isAhead_1 : decode cX5_isAhead 1 = .ok (.getfield 7, 3) := dk_180 0 7 (dk_at dksX5_isAhead_0 1 rfl rfl)
theorem dX5_isAhead_4 : decode cX5_isAhead 4 = .ok (.iload_n 1, 1) := dk_27 (dk_at dksX5_isAhead_0 4 rfl rfl)
theorem dX5_isAhead_5 : decode cX5_isAhead 5 = .ok (.iload_n 2, 1) := dk_28 (dk_at dksX5_isAhead_0 5 rfl rfl)
theorem dX5_isAhead_6 : decode cX5_isAhead 6 = .ok (.iconst 4, 1) := dk_7 (dk_at dksX5_isAhead_0 6 rfl rfl)
theorem dX5_isAhead_7 : decode cX5_isAhead 7 = .ok (.invokestatic 130, 3) := dk_184 0 130 (dk_at dksX5_isAhead_0 7 rfl rfl)
theorem dX5_isAhead_10 : decode cX5_isAhead 10 = .ok (.iaload, 1) := dk_46 (dk_at dksX5_isAhead_0 10 rfl rfl)
theorem dX5_isAhead_11 : decode cX5_isAhead 11 = .ok (.aload_n 0, 1) := dk_42 (dk_at dksX5_isAhead_0 11 rfl rfl)
theorem dX5_isAhead_12 : decode cX5_isAhead 12 = .ok (.getfield 7, 3) := dk_180 0 7 (dk_at dksX5_isAhead_0 12 rfl rfl)
theorem dX5_isAhead_15 : decode cX5_isAhead 15 = .ok (.iload_n 1, 1) := dk_27 (dk_at dksX5_isAhead_0 15 rfl rfl)
theorem dX5_isAhead_16 : decode cX5_isAhead 16 = .ok (.iload_n 3, 1) := dk_29 (dk_at dksX5_isAhead_0 16 rfl rfl)
theorem dX5_isAhead_17 : decode cX5_isAhead 17 = .ok (.iconst 4, 1) := dk_7 (dk_at dksX5_isAhead_0 17 rfl rfl)
theorem dX5_isAhead_18 : decode cX5_isAhead 18 = .ok (.invokestatic 130, 3) := dk_184 0 130 (dk_at dksX5_isAhead_0 18 rfl rfl)
theorem dX5_isAhead_21 : decode cX5_isAhead 21 = .ok (.iaload, 1) := dk_46 (dk_at dksX5_isAhead_0 21 rfl rfl)
theorem dX5_isAhead_22 : decode cX5_isAhead 22 = .ok (.isub, 1) := dk_100 (dk_at dksX5_isAhead_0 22 rfl rfl)
theorem dX5_isAhead_23 : decode cX5_isAhead 23 = .ok (.istore 4, 2) := dk_54 4 (dk_at dksX5_isAhead_1 0 rfl rfl)
theorem dX5_isAhead_25 : decode cX5_isAhead 25 = .ok (.iload 4, 2) := dk_21 4 (dk_at dksX5_isAhead_1 2 rfl rfl)
theorem dX5_isAhead_27 : decode cX5_isAhead 27 = .ok (.ifCond .eq 8, 3) := dk_153 0 8 (dk_at dksX5_isAhead_1 4 rfl rfl)
theorem dX5_isAhead_30 : decode cX5_isAhead 30 = .ok (.iload 4, 2) := dk_21 4 (dk_at dksX5_isAhead_1 7 rfl rfl)
theorem dX5_isAhead_32 : decode cX5_isAhead 32 = .ok (.goto 26, 3) := dk_167 0 26 (dk_at dksX5_isAhead_1 9 rfl rfl)
theorem dX5_isAhead_35 : decode cX5_isAhead 35 = .ok (.aload_n 0, 1) := dk_42 (dk_at dksX5_isAhead_1 12 rfl rfl)
theorem dX5_isAhead_36 : decode cX5_isAhead 36 = .ok (.getfield 7, 3) := dk_180 0 7 (dk_at dksX5_isAhead_1 13 rfl rfl)
theorem dX5_isAhead_39 : decode cX5_isAhead 39 = .ok (.iload_n 1, 1) := dk_27 (dk_at dksX5_isAhead_1 16 rfl rfl)
theorem dX5_isAhead_40 : decode cX5_isAhead 40 = .ok (.iload_n 3, 1) := dk_29 (dk_at dksX5_isAhead_1 17 rfl rfl)
theorem dX5_isAhead_41 : decode cX5_isAhead 41 = .ok (.iconst 0, 1) := dk_3 (dk_at dksX5_isAhead_1 18 rfl rfl)
theorem dX5_isAhead_42 : decode cX5_isAhead 42 = .ok (.invokestatic 130, 3) := dk_184 0 130 (dk_at dksX5_isAhead_1 19 rfl rfl)
theorem dX5_isAhead_45 : decode cX5_isAhead 45 = .ok (.iaload, 1) := dk_46 (dk_at dksX5_isAhead_1 22 rfl rfl)
theorem dX5_isAhead_46 : decode cX5_isAhead 46 = .ok (.aload_n 0, 1) := dk_42 (dk_at dksX5_isAhead_1 23 rfl rfl)
theorem dX5_isAhead_47 : decode cX5_isAhead 47 = .ok (.getfield 7, 3) := dk_180 0 7 (dk_at dksX5_isAhead_2 0 rfl rfl)
theorem dX5_isAhead_50 : decode cX5_isAhead 50 = .ok (.iload_n 1, 1) := dk_27 (dk_at dksX5_isAhead_2 3 rfl rfl)
theorem dX5_isAhead_51 : decode cX5_isAhead 51 = .ok (.iload_n 2, 1) := dk_28 (dk_at dksX5_isAhead_2 4 rfl rfl)
theorem dX5_isAhead_52 : decode cX5_isAhead 52 = .ok (.iconst 0, 1) := dk_3 (dk_at dksX5_isAhead_2 5 rfl rfl)
theorem dX5_isAhead_53 : decode cX5_isAhead 53 = .ok (.invokestatic 130, 3) := dk_184 0 130 (dk_at dksX5_isAhead_2 6 rfl rfl)
theorem dX5_isAhead_56 : decode cX5_isAhead 56 = .ok (.iaload, 1) := dk_46 (dk_at dksX5_isAhead_2 9 rfl rfl)
theorem dX5_isAhead_57 : decode cX5_isAhead 57 = .ok (.isub, 1) := dk_100 (dk_at dksX5_isAhead_2 10 rfl rfl)
theorem dX5_isAhead_58 : decode cX5_isAhead 58 = .ok (.istore 4, 2) := dk_54 4 (dk_at dksX5_isAhead_2 11 rfl rfl)
theorem dX5_isAhead_60 : decode cX5_isAhead 60 = .ok (.iload 4, 2) := dk_21 4 (dk_at dksX5_isAhead_2 13 rfl rfl)
theorem dX5_isAhead_62 : decode cX5_isAhead 62 = .ok (.ifCond .eq 8, 3) := dk_153 0 8 (dk_at dksX5_isAhead_2 15 rfl rfl)
theorem dX5_isAhead_65 : decode cX5_isAhead 65 = .ok (.iload 4, 2) := dk_21 4 (dk_at dksX5_isAhead_2 18 rfl rfl)
theorem dX5_isAhead_67 : decode cX5_isAhead 67 = .ok (.goto 26, 3) := dk_167 0 26 (dk_at dksX5_isAhead_2 20 rfl rfl)
theorem dX5_isAhead_70 : decode cX5_isAhead 70 = .ok (.aload_n 0, 1) := dk_42 (dk_at dksX5_isAhead_2 23 rfl rfl)
theorem dX5_isAhead_71 : decode cX5_isAhead 71 = .ok (.getfield 7, 3) := dk_180 0 7 (dk_at dksX5_isAhead_3 0 rfl rfl)
theorem dX5_isAhead_74 : decode cX5_isAhead 74 = .ok (.iload_n 1, 1) := dk_27 (dk_at dksX5_isAhead_3 3 rfl rfl)
theorem dX5_isAhead_75 : decode cX5_isAhead 75 = .ok (.iload_n 3, 1) := dk_29 (dk_at dksX5_isAhead_3 4 rfl rfl)
theorem dX5_isAhead_76 : decode cX5_isAhead 76 = .ok (.iconst 1, 1) := dk_4 (dk_at dksX5_isAhead_3 5 rfl rfl)
theorem dX5_isAhead_77 : decode cX5_isAhead 77 = .ok (.invokestatic 130, 3) := dk_184 0 130 (dk_at dksX5_isAhead_3 6 rfl rfl)
theorem dX5_isAhead_80 : decode cX5_isAhead 80 = .ok (.iaload, 1) := dk_46 (dk_at dksX5_isAhead_3 9 rfl rfl)
theorem dX5_isAhead_81 : decode cX5_isAhead 81 = .ok (.aload_n 0, 1) := dk_42 (dk_at dksX5_isAhead_3 10 rfl rfl)
theorem dX5_isAhead_82 : decode cX5_isAhead 82 = .ok (.getfield 7, 3) := dk_180 0 7 (dk_at dksX5_isAhead_3 11 rfl rfl)
theorem dX5_isAhead_85 : decode cX5_isAhead 85 = .ok (.iload_n 1, 1) := dk_27 (dk_at dksX5_isAhead_3 14 rfl rfl)
theorem dX5_isAhead_86 : decode cX5_isAhead 86 = .ok (.iload_n 2, 1) := dk_28 (dk_at dksX5_isAhead_3 15 rfl rfl)
theorem dX5_isAhead_87 : decode cX5_isAhead 87 = .ok (.iconst 1, 1) := dk_4 (dk_at dksX5_isAhead_3 16 rfl rfl)
theorem dX5_isAhead_88 : decode cX5_isAhead 88 = .ok (.invokestatic 130, 3) := dk_184 0 130 (dk_at dksX5_isAhead_3 17 rfl rfl)
theorem dX5_isAhead_91 : decode cX5_isAhead 91 = .ok (.iaload, 1) := dk_46 (dk_at dksX5_isAhead_3 20 rfl rfl)
theorem dX5_isAhead_92 : decode cX5_isAhead 92 = .ok (.isub, 1) := dk_100 (dk_at dksX5_isAhead_3 21 rfl rfl)
theorem dX5_isAhead_93 : decode cX5_isAhead 93 = .ok (.istore 4, 2) := dk_54 4 (dk_at dksX5_isAhead_3 22 rfl rfl)
theorem dX5_isAhead_95 : decode cX5_isAhead 95 = .ok (.iload 4, 2) := dk_21 4 (dk_at dksX5_isAhead_4 0 rfl rfl)
theorem dX5_isAhead_97 : decode cX5_isAhead 97 = .ok (.ifCond .gt 13, 3) := dk_157 0 13 (dk_at dksX5_isAhead_4 2 rfl rfl)
theorem dX5_isAhead_100 : decode cX5_isAhead 100 = .ok (.iload 4, 2) := dk_21 4 (dk_at dksX5_isAhead_4 5 rfl rfl)
theorem dX5_isAhead_102 : decode cX5_isAhead 102 = .ok (.ifCond .ne 12, 3) := dk_154 0 12 (dk_at dksX5_isAhead_4 7 rfl rfl)
theorem dX5_isAhead_105 : decode cX5_isAhead 105 = .ok (.iload_n 2, 1) := dk_28 (dk_at dksX5_isAhead_4 10 rfl rfl)
theorem dX5_isAhead_106 : decode cX5_isAhead 106 = .ok (.iload_n 3, 1) := dk_29 (dk_at dksX5_isAhead_4 11 rfl rfl)
theorem dX5_isAhead_107 : decode cX5_isAhead 107 = .ok (.if_icmp .ge 7, 3) := dk_162 0 7 (dk_at dksX5_isAhead_4 12 rfl rfl)
theorem dX5_isAhead_110 : decode cX5_isAhead 110 = .ok (.iconst 1, 1) := dk_4 (dk_at dksX5_isAhead_4 15 rfl rfl)
theorem dX5_isAhead_111 : decode cX5_isAhead 111 = .ok (.goto 4, 3) := dk_167 0 4 (dk_at dksX5_isAhead_4 16 rfl rfl)
theorem dX5_isAhead_114 : decode cX5_isAhead 114 = .ok (.iconst 0, 1) := dk_3 (dk_at dksX5_isAhead_4 19 rfl rfl)
theorem dX5_isAhead_115 : decode cX5_isAhead 115 = .ok (.ireturn, 1) := dk_172 (dk_at dksX5_isAhead_4 20 rfl rfl)
abbrev cX5_append : ByteArray := prog_19_method_58_code
def yX5_append : MethodName := ⟨RX5, "append", "(I)I"⟩
def dkwX5_append_2 : List UInt8 := [180, 0, 183, 172]
abbrev dktX5_append_2 : List UInt8 := dkwX5_append_2 ++ []
def dkwX5_append_1 : List UInt8 := [16, 243, 172, 42, 180, 0, 46, 42, 180, 0, 183, 27, 79, 42, 89, 180, 0, 183, 4, 96, 181, 0, 183, 42]
abbrev dktX5_append_1 : List UInt8 := dkwX5_append_1 ++ dktX5_append_2
def dkwX5_append_0 : List UInt8 := [27, 16, 32, 16, 126, 184, 0, 95, 154, 0, 6, 16, 244, 172, 42, 180, 0, 183, 16, 60, 160, 0, 6]
abbrev dktX5_append_0 : List UInt8 := dkwX5_append_0 ++ dktX5_append_1
theorem dksX5_append_0 : cX5_append.data.toList.drop 0 = dktX5_append_0 := by decide +kernel
theorem dksX5_append_1 : cX5_append.data.toList.drop 23 = dktX5_append_1 := dk_seg dksX5_append_0 23 rfl rfl
theorem dksX5_append_2 : cX5_append.data.toList.drop 47 = dktX5_append_2 := dk_seg dksX5_append_1 24 rfl rfl
theorem dX5_append_0 : decode cX5_append 0 = .ok (.iload_n 1, 1) := dk_27 (dk_at dksX5_append_0 0 rfl rfl)
theorem dX5_append_1 : decode cX5_append 1 = .ok (.bipush 32, 2) := dk_16 32 (dk_at dksX5_append_0 1 rfl rfl)
theorem dX5_append_3 : decode cX5_append 3 = .ok (.bipush 126, 2) := dk_16 126 (dk_at dksX5_append_0 3 rfl rfl)
theorem dX5_append_5 : decode cX5_append 5 = .ok (.invokestatic 95, 3) := dk_184 0 95 (dk_at dksX5_append_0 5 rfl rfl)
theorem dX5_append_8 : decode cX5_append 8 = .ok (.ifCond .ne 6, 3) := dk_154 0 6 (dk_at dksX5_append_0 8 rfl rfl)
theorem dX5_append_11 : decode cX5_append 11 = .ok (.bipush (-12), 2) := dk_16 244 (dk_at dksX5_append_0 11 rfl rfl)
theorem dX5_append_13 : decode cX5_append 13 = .ok (.ireturn, 1) := dk_172 (dk_at dksX5_append_0 13 rfl rfl)
theorem dX5_append_14 : decode cX5_append 14 = .ok (.aload_n 0, 1) := dk_42 (dk_at dksX5_append_0 14 rfl rfl)
theorem dX5_append_15 : decode cX5_append 15 = .ok (.getfield 183, 3) := dk_180 0 183 (dk_at dksX5_append_0 15 rfl rfl)
theorem dX5_append_18 : decode cX5_append 18 = .ok (.bipush 60, 2) := dk_16 60 (dk_at dksX5_append_0 18 rfl rfl)
theorem dX5_append_20 : decode cX5_append 20 = .ok (.if_icmp .ne 6, 3) := dk_160 0 6 (dk_at dksX5_append_0 20 rfl rfl)
theorem dX5_append_23 : decode cX5_append 23 = .ok (.bipush (-13), 2) := dk_16 243 (dk_at dksX5_append_1 0 rfl rfl)
theorem dX5_append_25 : decode cX5_append 25 = .ok (.ireturn, 1) := dk_172 (dk_at dksX5_append_1 2 rfl rfl)
theorem dX5_append_26 : decode cX5_append 26 = .ok (.aload_n 0, 1) := dk_42 (dk_at dksX5_append_1 3 rfl rfl)
theorem dX5_append_27 : decode cX5_append 27 = .ok (.getfield 46, 3) := dk_180 0 46 (dk_at dksX5_append_1 4 rfl rfl)
theorem dX5_append_30 : decode cX5_append 30 = .ok (.aload_n 0, 1) := dk_42 (dk_at dksX5_append_1 7 rfl rfl)
theorem dX5_append_31 : decode cX5_append 31 = .ok (.getfield 183, 3) := dk_180 0 183 (dk_at dksX5_append_1 8 rfl rfl)
theorem dX5_append_34 : decode cX5_append 34 = .ok (.iload_n 1, 1) := dk_27 (dk_at dksX5_append_1 11 rfl rfl)
theorem dX5_append_35 : decode cX5_append 35 = .ok (.iastore, 1) := dk_79 (dk_at dksX5_append_1 12 rfl rfl)
theorem dX5_append_36 : decode cX5_append 36 = .ok (.aload_n 0, 1) := dk_42 (dk_at dksX5_append_1 13 rfl rfl)
theorem dX5_append_37 : decode cX5_append 37 = .ok (.dup, 1) := dk_89 (dk_at dksX5_append_1 14 rfl rfl)
theorem dX5_append_38 : decode cX5_append 38 = .ok (.getfield 183, 3) := dk_180 0 183 (dk_at dksX5_append_1 15 rfl rfl)
theorem dX5_append_41 : decode cX5_append 41 = .ok (.iconst 1, 1) := dk_4 (dk_at dksX5_append_1 18 rfl rfl)
theorem dX5_append_42 : decode cX5_append 42 = .ok (.iadd, 1) := dk_96 (dk_at dksX5_append_1 19 rfl rfl)
theorem dX5_append_43 : decode cX5_append 43 = .ok (.putfield 183, 3) := dk_181 0 183 (dk_at dksX5_append_1 20 rfl rfl)
theorem dX5_append_46 : decode cX5_append 46 = .ok (.aload_n 0, 1) := dk_42 (dk_at dksX5_append_1 23 rfl rfl)
theorem dX5_append_47 : decode cX5_append 47 = .ok (.getfield 183, 3) := dk_180 0 183 (dk_at dksX5_append_2 0 rfl rfl)
theorem dX5_append_50 : decode cX5_append 50 = .ok (.ireturn, 1) := dk_172 (dk_at dksX5_append_2 3 rfl rfl)
abbrev cX5_clear : ByteArray := prog_19_method_59_code
def yX5_clear : MethodName := ⟨RX5, "clear", "()I"⟩
def dkwX5_clear_0 : List UInt8 := [42, 180, 0, 183, 60, 42, 3, 181, 0, 183, 27, 172]
abbrev dktX5_clear_0 : List UInt8 := dkwX5_clear_0 ++ []
theorem dksX5_clear_0 : cX5_clear.data.toList.drop 0 = dktX5_clear_0 := by decide +kernel
theorem dX5_clear_0 : decode cX5_clear 0 = .ok (.aload_n 0, 1) := dk_42 (dk_at dksX5_clear_0 0 rfl rfl)
theorem dX5_clear_1 : decode cX5_clear 1 = .ok (.getfield 183, 3) := dk_180 0 183 (dk_at dksX5_clear_0 1 rfl rfl)
theorem dX5_clear_4 : decode cX5_clear 4 = .ok (.istore_n 1, 1) := dk_60 (dk_at dksX5_clear_0 4 rfl rfl)
theorem dX5_clear_5 : decode cX5_clear 5 = .ok (.aload_n 0, 1) := dk_42 (dk_at dksX5_clear_0 5 rfl rfl)
theorem dX5_clear_6 : decode cX5_clear 6 = .ok (.iconst 0, 1) := dk_3 (dk_at dksX5_clear_0 6 rfl rfl)
theorem dX5_clear_7 : decode cX5_clear 7 = .ok (.putfield 183, 3) := dk_181 0 183 (dk_at dksX5_clear_0 7 rfl rfl)
theorem dX5_clear_10 : decode cX5_clear 10 = .ok (.iload_n 1, 1) := dk_27 (dk_at dksX5_clear_0 10 rfl rfl)
theorem dX5_clear_11 : decode cX5_clear 11 = .ok (.ireturn, 1) := dk_172 (dk_at dksX5_clear_0 11 rfl rfl)
abbrev cX5_run : ByteArray := prog_19_method_70_code
def yX5_run : MethodName := ⟨RX5, "run", "()I"⟩
def dkwX5_run_5 : List UInt8 := [172]
abbrev dktX5_run_5 : List UInt8 := dkwX5_run_5 ++ []
def dkwX5_run_4 : List UInt8 := [8, 27, 4, 100, 182, 0, 103, 182, 0, 116, 54, 4, 42, 28, 181, 0, 81, 42, 29, 181, 1, 27, 21, 4]
abbrev dktX5_run_4 : List UInt8 := dkwX5_run_4 ++ dktX5_run_5
def dkwX5_run_3 : List UInt8 := [180, 0, 71, 16, 242, 160, 0, 10, 42, 180, 0, 75, 167, 0, 4, 3, 61, 42, 180, 0, 78, 62, 42, 42]
abbrev dktX5_run_3 : List UInt8 := dkwX5_run_3 ++ dktX5_run_4
def dkwX5_run_2 : List UInt8 := [181, 1, 15, 42, 182, 1, 24, 60, 42, 180, 0, 71, 154, 0, 9, 42, 27, 182, 0, 116, 172, 42]
abbrev dktX5_run_2 : List UInt8 := dkwX5_run_2 ++ dktX5_run_3
def dkwX5_run_1 : List UInt8 := [182, 1, 24, 60, 42, 180, 0, 246, 153, 0, 12, 17, 252, 24, 42, 180, 0, 240, 100, 172, 42, 4]
abbrev dktX5_run_1 : List UInt8 := dkwX5_run_1 ++ dktX5_run_2
def dkwX5_run_0 : List UInt8 := [42, 182, 0, 110, 42, 42, 180, 0, 183, 181, 0, 243, 42, 3, 181, 0, 183, 42, 3, 181, 1, 15, 42]
abbrev dktX5_run_0 : List UInt8 := dkwX5_run_0 ++ dktX5_run_1
theorem dksX5_run_0 : cX5_run.data.toList.drop 0 = dktX5_run_0 := by decide +kernel
theorem dksX5_run_1 : cX5_run.data.toList.drop 23 = dktX5_run_1 := dk_seg dksX5_run_0 23 rfl rfl
theorem dksX5_run_2 : cX5_run.data.toList.drop 45 = dktX5_run_2 := dk_seg dksX5_run_1 22 rfl rfl
theorem dksX5_run_3 : cX5_run.data.toList.drop 67 = dktX5_run_3 := dk_seg dksX5_run_2 22 rfl rfl
theorem dksX5_run_4 : cX5_run.data.toList.drop 91 = dktX5_run_4 := dk_seg dksX5_run_3 24 rfl rfl
theorem dksX5_run_5 : cX5_run.data.toList.drop 115 = dktX5_run_5 := dk_seg dksX5_run_4 24 rfl rfl
theorem dX5_run_0 : decode cX5_run 0 = .ok (.aload_n 0, 1) := dk_42 (dk_at dksX5_run_0 0 rfl rfl)
theorem dX5_run_1 : decode cX5_run 1 = .ok (.invokevirtual 110, 3) := dk_182 0 110 (dk_at dksX5_run_0 1 rfl rfl)
theorem dX5_run_4 : decode cX5_run 4 = .ok (.aload_n 0, 1) := dk_42 (dk_at dksX5_run_0 4 rfl rfl)
theorem dX5_run_5 : decode cX5_run 5 = .ok (.aload_n 0, 1) := dk_42 (dk_at dksX5_run_0 5 rfl rfl)
theorem dX5_run_6 : decode cX5_run 6 = .ok (.getfield 183, 3) := dk_180 0 183 (dk_at dksX5_run_0 6 rfl rfl)
theorem dX5_run_9 : decode cX5_run 9 = .ok (.putfield 243, 3) := dk_181 0 243 (dk_at dksX5_run_0 9 rfl rfl)
theorem dX5_run_12 : decode cX5_run 12 = .ok (.aload_n 0, 1) := dk_42 (dk_at dksX5_run_0 12 rfl rfl)
theorem dX5_run_13 : decode cX5_run 13 = .ok (.iconst 0, 1) := dk_3 (dk_at dksX5_run_0 13 rfl rfl)
theorem dX5_run_14 : decode cX5_run 14 = .ok (.putfield 183, 3) := dk_181 0 183 (dk_at dksX5_run_0 14 rfl rfl)
theorem dX5_run_17 : decode cX5_run 17 = .ok (.aload_n 0, 1) := dk_42 (dk_at dksX5_run_0 17 rfl rfl)
theorem dX5_run_18 : decode cX5_run 18 = .ok (.iconst 0, 1) := dk_3 (dk_at dksX5_run_0 18 rfl rfl)
theorem dX5_run_19 : decode cX5_run 19 = .ok (.putfield 271, 3) := dk_181 1 15 (dk_at dksX5_run_0 19 rfl rfl)
theorem dX5_run_22 : decode cX5_run 22 = .ok (.aload_n 0, 1) := dk_42 (dk_at dksX5_run_0 22 rfl rfl)
theorem dX5_run_23 : decode cX5_run 23 = .ok (.invokevirtual 280, 3) := dk_182 1 24 (dk_at dksX5_run_1 0 rfl rfl)
theorem dX5_run_26 : decode cX5_run 26 = .ok (.istore_n 1, 1) := dk_60 (dk_at dksX5_run_1 3 rfl rfl)
theorem dX5_run_27 : decode cX5_run 27 = .ok (.aload_n 0, 1) := dk_42 (dk_at dksX5_run_1 4 rfl rfl)
theorem dX5_run_28 : decode cX5_run 28 = .ok (.getfield 246, 3) := dk_180 0 246 (dk_at dksX5_run_1 5 rfl rfl)
theorem dX5_run_31 : decode cX5_run 31 = .ok (.ifCond .eq 12, 3) := dk_153 0 12 (dk_at dksX5_run_1 8 rfl rfl)
theorem dX5_run_34 : decode cX5_run 34 = .ok (.sipush (-1000), 3) := dk_17 252 24 (dk_at dksX5_run_1 11 rfl rfl)
theorem dX5_run_37 : decode cX5_run 37 = .ok (.aload_n 0, 1) := dk_42 (dk_at dksX5_run_1 14 rfl rfl)
theorem dX5_run_38 : decode cX5_run 38 = .ok (.getfield 240, 3) := dk_180 0 240 (dk_at dksX5_run_1 15 rfl rfl)
theorem dX5_run_41 : decode cX5_run 41 = .ok (.isub, 1) := dk_100 (dk_at dksX5_run_1 18 rfl rfl)
theorem dX5_run_42 : decode cX5_run 42 = .ok (.ireturn, 1) := dk_172 (dk_at dksX5_run_1 19 rfl rfl)
theorem dX5_run_43 : decode cX5_run 43 = .ok (.aload_n 0, 1) := dk_42 (dk_at dksX5_run_1 20 rfl rfl)
theorem dX5_run_44 : decode cX5_run 44 = .ok (.iconst 1, 1) := dk_4 (dk_at dksX5_run_1 21 rfl rfl)
theorem dX5_run_45 : decode cX5_run 45 = .ok (.putfield 271, 3) := dk_181 1 15 (dk_at dksX5_run_2 0 rfl rfl)
theorem dX5_run_48 : decode cX5_run 48 = .ok (.aload_n 0, 1) := dk_42 (dk_at dksX5_run_2 3 rfl rfl)
theorem dX5_run_49 : decode cX5_run 49 = .ok (.invokevirtual 280, 3) := dk_182 1 24 (dk_at dksX5_run_2 4 rfl rfl)
theorem dX5_run_52 : decode cX5_run 52 = .ok (.istore_n 1, 1) := dk_60 (dk_at dksX5_run_2 7 rfl rfl)
theorem dX5_run_53 : decode cX5_run 53 = .ok (.aload_n 0, 1) := dk_42 (dk_at dksX5_run_2 8 rfl rfl)
theorem dX5_run_54 : decode cX5_run 54 = .ok (.getfield 71, 3) := dk_180 0 71 (dk_at dksX5_run_2 9 rfl rfl)
theorem dX5_run_57 : decode cX5_run 57 = .ok (.ifCond .ne 9, 3) := dk_154 0 9 (dk_at dksX5_run_2 12 rfl rfl)
theorem dX5_run_60 : decode cX5_run 60 = .ok (.aload_n 0, 1) := dk_42 (dk_at dksX5_run_2 15 rfl rfl)
theorem dX5_run_61 : decode cX5_run 61 = .ok (.iload_n 1, 1) := dk_27 (dk_at dksX5_run_2 16 rfl rfl)
theorem dX5_run_62 : decode cX5_run 62 = .ok (.invokevirtual 116, 3) := dk_182 0 116 (dk_at dksX5_run_2 17 rfl rfl)
theorem dX5_run_65 : decode cX5_run 65 = .ok (.ireturn, 1) := dk_172 (dk_at dksX5_run_2 20 rfl rfl)
theorem dX5_run_66 : decode cX5_run 66 = .ok (.aload_n 0, 1) := dk_42 (dk_at dksX5_run_2 21 rfl rfl)
theorem dX5_run_67 : decode cX5_run 67 = .ok (.getfield 71, 3) := dk_180 0 71 (dk_at dksX5_run_3 0 rfl rfl)
theorem dX5_run_70 : decode cX5_run 70 = .ok (.bipush (-14), 2) := dk_16 242 (dk_at dksX5_run_3 3 rfl rfl)
theorem dX5_run_72 : decode cX5_run 72 = .ok (.if_icmp .ne 10, 3) := dk_160 0 10 (dk_at dksX5_run_3 5 rfl rfl)
theorem dX5_run_75 : decode cX5_run 75 = .ok (.aload_n 0, 1) := dk_42 (dk_at dksX5_run_3 8 rfl rfl)
theorem dX5_run_76 : decode cX5_run 76 = .ok (.getfield 75, 3) := dk_180 0 75 (dk_at dksX5_run_3 9 rfl rfl)
theorem dX5_run_79 : decode cX5_run 79 = .ok (.goto 4, 3) := dk_167 0 4 (dk_at dksX5_run_3 12 rfl rfl)
theorem dX5_run_82 : decode cX5_run 82 = .ok (.iconst 0, 1) := dk_3 (dk_at dksX5_run_3 15 rfl rfl)
theorem dX5_run_83 : decode cX5_run 83 = .ok (.istore_n 2, 1) := dk_61 (dk_at dksX5_run_3 16 rfl rfl)
theorem dX5_run_84 : decode cX5_run 84 = .ok (.aload_n 0, 1) := dk_42 (dk_at dksX5_run_3 17 rfl rfl)
theorem dX5_run_85 : decode cX5_run 85 = .ok (.getfield 78, 3) := dk_180 0 78 (dk_at dksX5_run_3 18 rfl rfl)
theorem dX5_run_88 : decode cX5_run 88 = .ok (.istore_n 3, 1) := dk_62 (dk_at dksX5_run_3 21 rfl rfl)
theorem dX5_run_89 : decode cX5_run 89 = .ok (.aload_n 0, 1) := dk_42 (dk_at dksX5_run_3 22 rfl rfl)
theorem dX5_run_90 : decode cX5_run 90 = .ok (.aload_n 0, 1) := dk_42 (dk_at dksX5_run_3 23 rfl rfl)
theorem dX5_run_91 : decode cX5_run 91 = .ok (.iconst 5, 1) := dk_8 (dk_at dksX5_run_4 0 rfl rfl)
theorem dX5_run_92 : decode cX5_run 92 = .ok (.iload_n 1, 1) := dk_27 (dk_at dksX5_run_4 1 rfl rfl)
theorem dX5_run_93 : decode cX5_run 93 = .ok (.iconst 1, 1) := dk_4 (dk_at dksX5_run_4 2 rfl rfl)
theorem dX5_run_94 : decode cX5_run 94 = .ok (.isub, 1) := dk_100 (dk_at dksX5_run_4 3 rfl rfl)
theorem dX5_run_95 : decode cX5_run 95 = .ok (.invokevirtual 103, 3) := dk_182 0 103 (dk_at dksX5_run_4 4 rfl rfl)
theorem dX5_run_98 : decode cX5_run 98 = .ok (.invokevirtual 116, 3) := dk_182 0 116 (dk_at dksX5_run_4 7 rfl rfl)
theorem dX5_run_101 : decode cX5_run 101 = .ok (.istore 4, 2) := dk_54 4 (dk_at dksX5_run_4 10 rfl rfl)
theorem dX5_run_103 : decode cX5_run 103 = .ok (.aload_n 0, 1) := dk_42 (dk_at dksX5_run_4 12 rfl rfl)
theorem dX5_run_104 : decode cX5_run 104 = .ok (.iload_n 2, 1) := dk_28 (dk_at dksX5_run_4 13 rfl rfl)
theorem dX5_run_105 : decode cX5_run 105 = .ok (.putfield 81, 3) := dk_181 0 81 (dk_at dksX5_run_4 14 rfl rfl)
theorem dX5_run_108 : decode cX5_run 108 = .ok (.aload_n 0, 1) := dk_42 (dk_at dksX5_run_4 17 rfl rfl)
theorem dX5_run_109 : decode cX5_run 109 = .ok (.iload_n 3, 1) := dk_29 (dk_at dksX5_run_4 18 rfl rfl)
theorem dX5_run_110 : decode cX5_run 110 = .ok (.putfield 283, 3) := dk_181 1 27 (dk_at dksX5_run_4 19 rfl rfl)
theorem dX5_run_113 : decode cX5_run 113 = .ok (.iload 4, 2) := dk_21 4 (dk_at dksX5_run_4 22 rfl rfl)
theorem dX5_run_115 : decode cX5_run 115 = .ok (.ireturn, 1) := dk_172 (dk_at dksX5_run_5 0 rfl rfl)
abbrev cX5_orders : ByteArray := prog_19_method_69_code
def yX5_orders : MethodName := ⟨RX5, "orders", "()I"⟩
def dkwX5_orders_2 : List UInt8 := [180, 0, 246, 154, 0, 7, 42, 182, 1, 21, 132, 1, 1, 167, 255, 211, 27, 172]
abbrev dktX5_orders_2 : List UInt8 := dkwX5_orders_2 ++ []
def dkwX5_orders_1 : List UInt8 := [180, 0, 71, 154, 0, 37, 42, 180, 0, 240, 42, 180, 0, 243, 162, 0, 26, 42, 16, 59, 182, 0, 253, 42]
abbrev dktX5_orders_1 : List UInt8 := dkwX5_orders_1 ++ dktX5_orders_2
def dkwX5_orders_0 : List UInt8 := [42, 3, 181, 0, 240, 42, 3, 181, 0, 246, 4, 60, 42, 182, 1, 21, 42, 180, 0, 246, 154, 0, 44, 42]
abbrev dktX5_orders_0 : List UInt8 := dkwX5_orders_0 ++ dktX5_orders_1
theorem dksX5_orders_0 : cX5_orders.data.toList.drop 0 = dktX5_orders_0 := by decide +kernel
theorem dksX5_orders_1 : cX5_orders.data.toList.drop 24 = dktX5_orders_1 := dk_seg dksX5_orders_0 24 rfl rfl
theorem dksX5_orders_2 : cX5_orders.data.toList.drop 48 = dktX5_orders_2 := dk_seg dksX5_orders_1 24 rfl rfl
theorem dX5_orders_0 : decode cX5_orders 0 = .ok (.aload_n 0, 1) := dk_42 (dk_at dksX5_orders_0 0 rfl rfl)
theorem dX5_orders_1 : decode cX5_orders 1 = .ok (.iconst 0, 1) := dk_3 (dk_at dksX5_orders_0 1 rfl rfl)
theorem dX5_orders_2 : decode cX5_orders 2 = .ok (.putfield 240, 3) := dk_181 0 240 (dk_at dksX5_orders_0 2 rfl rfl)
theorem dX5_orders_5 : decode cX5_orders 5 = .ok (.aload_n 0, 1) := dk_42 (dk_at dksX5_orders_0 5 rfl rfl)
theorem dX5_orders_6 : decode cX5_orders 6 = .ok (.iconst 0, 1) := dk_3 (dk_at dksX5_orders_0 6 rfl rfl)
theorem dX5_orders_7 : decode cX5_orders 7 = .ok (.putfield 246, 3) := dk_181 0 246 (dk_at dksX5_orders_0 7 rfl rfl)
theorem dX5_orders_10 : decode cX5_orders 10 = .ok (.iconst 1, 1) := dk_4 (dk_at dksX5_orders_0 10 rfl rfl)
theorem dX5_orders_11 : decode cX5_orders 11 = .ok (.istore_n 1, 1) := dk_60 (dk_at dksX5_orders_0 11 rfl rfl)
theorem dX5_orders_12 : decode cX5_orders 12 = .ok (.aload_n 0, 1) := dk_42 (dk_at dksX5_orders_0 12 rfl rfl)
theorem dX5_orders_13 : decode cX5_orders 13 = .ok (.invokevirtual 277, 3) := dk_182 1 21 (dk_at dksX5_orders_0 13 rfl rfl)
theorem dX5_orders_16 : decode cX5_orders 16 = .ok (.aload_n 0, 1) := dk_42 (dk_at dksX5_orders_0 16 rfl rfl)
theorem dX5_orders_17 : decode cX5_orders 17 = .ok (.getfield 246, 3) := dk_180 0 246 (dk_at dksX5_orders_0 17 rfl rfl)
theorem dX5_orders_20 : decode cX5_orders 20 = .ok (.ifCond .ne 44, 3) := dk_154 0 44 (dk_at dksX5_orders_0 20 rfl rfl)
theorem dX5_orders_23 : decode cX5_orders 23 = .ok (.aload_n 0, 1) := dk_42 (dk_at dksX5_orders_0 23 rfl rfl)
theorem dX5_orders_24 : decode cX5_orders 24 = .ok (.getfield 71, 3) := dk_180 0 71 (dk_at dksX5_orders_1 0 rfl rfl)
theorem dX5_orders_27 : decode cX5_orders 27 = .ok (.ifCond .ne 37, 3) := dk_154 0 37 (dk_at dksX5_orders_1 3 rfl rfl)
theorem dX5_orders_30 : decode cX5_orders 30 = .ok (.aload_n 0, 1) := dk_42 (dk_at dksX5_orders_1 6 rfl rfl)
theorem dX5_orders_31 : decode cX5_orders 31 = .ok (.getfield 240, 3) := dk_180 0 240 (dk_at dksX5_orders_1 7 rfl rfl)
theorem dX5_orders_34 : decode cX5_orders 34 = .ok (.aload_n 0, 1) := dk_42 (dk_at dksX5_orders_1 10 rfl rfl)
theorem dX5_orders_35 : decode cX5_orders 35 = .ok (.getfield 243, 3) := dk_180 0 243 (dk_at dksX5_orders_1 11 rfl rfl)
theorem dX5_orders_38 : decode cX5_orders 38 = .ok (.if_icmp .ge 26, 3) := dk_162 0 26 (dk_at dksX5_orders_1 14 rfl rfl)
theorem dX5_orders_41 : decode cX5_orders 41 = .ok (.aload_n 0, 1) := dk_42 (dk_at dksX5_orders_1 17 rfl rfl)
theorem dX5_orders_42 : decode cX5_orders 42 = .ok (.bipush 59, 2) := dk_16 59 (dk_at dksX5_orders_1 18 rfl rfl)
theorem dX5_orders_44 : decode cX5_orders 44 = .ok (.invokevirtual 253, 3) := dk_182 0 253 (dk_at dksX5_orders_1 20 rfl rfl)
theorem dX5_orders_47 : decode cX5_orders 47 = .ok (.aload_n 0, 1) := dk_42 (dk_at dksX5_orders_1 23 rfl rfl)
theorem dX5_orders_48 : decode cX5_orders 48 = .ok (.getfield 246, 3) := dk_180 0 246 (dk_at dksX5_orders_2 0 rfl rfl)
theorem dX5_orders_51 : decode cX5_orders 51 = .ok (.ifCond .ne 7, 3) := dk_154 0 7 (dk_at dksX5_orders_2 3 rfl rfl)
theorem dX5_orders_54 : decode cX5_orders 54 = .ok (.aload_n 0, 1) := dk_42 (dk_at dksX5_orders_2 6 rfl rfl)
theorem dX5_orders_55 : decode cX5_orders 55 = .ok (.invokevirtual 277, 3) := dk_182 1 21 (dk_at dksX5_orders_2 7 rfl rfl)
theorem dX5_orders_58 : decode cX5_orders 58 = .ok (.iinc 1 1, 3) := dk_132 1 1 (dk_at dksX5_orders_2 10 rfl rfl)
theorem dX5_orders_61 : decode cX5_orders 61 = .ok (.goto (-45), 3) := dk_167 255 211 (dk_at dksX5_orders_2 13 rfl rfl)
theorem dX5_orders_64 : decode cX5_orders 64 = .ok (.iload_n 1, 1) := dk_27 (dk_at dksX5_orders_2 16 rfl rfl)
theorem dX5_orders_65 : decode cX5_orders 65 = .ok (.ireturn, 1) := dk_172 (dk_at dksX5_orders_2 17 rfl rfl)
abbrev cX5_order : ByteArray := prog_19_method_68_code
def yX5_order : MethodName := ⟨RX5, "order", "()V"⟩
def dkwX5_order_7 : List UInt8 := [61, 177]
abbrev dktX5_order_7 : List UInt8 := dkwX5_order_7 ++ []
def dkwX5_order_6 : List UInt8 := [182, 1, 3, 79, 42, 180, 0, 246, 154, 0, 10, 42, 180, 1, 15, 154, 0, 4, 177, 42, 27, 182, 1, 18]
abbrev dktX5_order_6 : List UInt8 := dkwX5_order_6 ++ dktX5_order_7
def dkwX5_order_5 : List UInt8 := [42, 16, 46, 5, 182, 1, 3, 79, 27, 16, 119, 160, 0, 16, 42, 180, 0, 68, 5, 42, 16, 61, 4]
abbrev dktX5_order_5 : List UInt8 := dkwX5_order_5 ++ dktX5_order_6
def dkwX5_order_4 : List UInt8 := [160, 0, 7, 42, 182, 1, 12, 27, 16, 119, 159, 0, 9, 27, 16, 100, 160, 0, 16, 42, 180, 0, 68, 4]
abbrev dktX5_order_4 : List UInt8 := dkwX5_order_4 ++ dktX5_order_5
def dkwX5_order_3 : List UInt8 := [180, 0, 68, 3, 42, 4, 182, 1, 0, 79, 27, 16, 102, 160, 0, 7, 42, 182, 1, 9, 27, 16, 97]
abbrev dktX5_order_3 : List UInt8 := dkwX5_order_3 ++ dktX5_order_4
def dkwX5_order_2 : List UInt8 := [181, 0, 246, 42, 180, 0, 246, 153, 0, 4, 177, 42, 89, 180, 0, 240, 4, 96, 181, 0, 240, 42]
abbrev dktX5_order_2 : List UInt8 := dkwX5_order_2 ++ dktX5_order_3
def dkwX5_order_1 : List UInt8 := [27, 16, 119, 159, 0, 19, 27, 16, 100, 159, 0, 13, 27, 16, 116, 159, 0, 7, 4, 167, 0, 4, 3]
abbrev dktX5_order_1 : List UInt8 := dkwX5_order_1 ++ dktX5_order_2
def dkwX5_order_0 : List UInt8 := [42, 182, 0, 250, 60, 42, 27, 16, 115, 159, 0, 37, 27, 16, 102, 159, 0, 31, 27, 16, 97, 159, 0, 25]
abbrev dktX5_order_0 : List UInt8 := dkwX5_order_0 ++ dktX5_order_1
theorem dksX5_order_0 : cX5_order.data.toList.drop 0 = dktX5_order_0 := by decide +kernel
theorem dksX5_order_1 : cX5_order.data.toList.drop 24 = dktX5_order_1 := dk_seg dksX5_order_0 24 rfl rfl
theorem dksX5_order_2 : cX5_order.data.toList.drop 47 = dktX5_order_2 := dk_seg dksX5_order_1 23 rfl rfl
theorem dksX5_order_3 : cX5_order.data.toList.drop 69 = dktX5_order_3 := dk_seg dksX5_order_2 22 rfl rfl
theorem dksX5_order_4 : cX5_order.data.toList.drop 92 = dktX5_order_4 := dk_seg dksX5_order_3 23 rfl rfl
theorem dksX5_order_5 : cX5_order.data.toList.drop 116 = dktX5_order_5 := dk_seg dksX5_order_4 24 rfl rfl
theorem dksX5_order_6 : cX5_order.data.toList.drop 139 = dktX5_order_6 := dk_seg dksX5_order_5 23 rfl rfl
theorem dksX5_order_7 : cX5_order.data.toList.drop 163 = dktX5_order_7 := dk_seg dksX5_order_6 24 rfl rfl
theorem dX5_order_0 : decode cX5_order 0 = .ok (.aload_n 0, 1) := dk_42 (dk_at dksX5_order_0 0 rfl rfl)
theorem dX5_order_1 : decode cX5_order 1 = .ok (.invokevirtual 250, 3) := dk_182 0 250 (dk_at dksX5_order_0 1 rfl rfl)
theorem dX5_order_4 : decode cX5_order 4 = .ok (.istore_n 1, 1) := dk_60 (dk_at dksX5_order_0 4 rfl rfl)
theorem dX5_order_5 : decode cX5_order 5 = .ok (.aload_n 0, 1) := dk_42 (dk_at dksX5_order_0 5 rfl rfl)
theorem dX5_order_6 : decode cX5_order 6 = .ok (.iload_n 1, 1) := dk_27 (dk_at dksX5_order_0 6 rfl rfl)
theorem dX5_order_7 : decode cX5_order 7 = .ok (.bipush 115, 2) := dk_16 115 (dk_at dksX5_order_0 7 rfl rfl)
theorem dX5_order_9 : decode cX5_order 9 = .ok (.if_icmp .eq 37, 3) := dk_159 0 37 (dk_at dksX5_order_0 9 rfl rfl)
theorem dX5_order_12 : decode cX5_order 12 = .ok (.iload_n 1, 1) := dk_27 (dk_at dksX5_order_0 12 rfl rfl)
theorem dX5_order_13 : decode cX5_order 13 = .ok (.bipush 102, 2) := dk_16 102 (dk_at dksX5_order_0 13 rfl rfl)
theorem dX5_order_15 : decode cX5_order 15 = .ok (.if_icmp .eq 31, 3) := dk_159 0 31 (dk_at dksX5_order_0 15 rfl rfl)
theorem dX5_order_18 : decode cX5_order 18 = .ok (.iload_n 1, 1) := dk_27 (dk_at dksX5_order_0 18 rfl rfl)
theorem dX5_order_19 : decode cX5_order 19 = .ok (.bipush 97, 2) := dk_16 97 (dk_at dksX5_order_0 19 rfl rfl)
theorem dX5_order_21 : decode cX5_order 21 = .ok (.if_icmp .eq 25, 3) := dk_159 0 25 (dk_at dksX5_order_0 21 rfl rfl)
theorem dX5_order_24 : decode cX5_order 24 = .ok (.iload_n 1, 1) := dk_27 (dk_at dksX5_order_1 0 rfl rfl)
theorem dX5_order_25 : decode cX5_order 25 = .ok (.bipush 119, 2) := dk_16 119 (dk_at dksX5_order_1 1 rfl rfl)
theorem dX5_order_27 : decode cX5_order 27 = .ok (.if_icmp .eq 19, 3) := dk_159 0 19 (dk_at dksX5_order_1 3 rfl rfl)
theorem dX5_order_30 : decode cX5_order 30 = .ok (.iload_n 1, 1) := dk_27 (dk_at dksX5_order_1 6 rfl rfl)
theorem dX5_order_31 : decode cX5_order 31 = .ok (.bipush 100, 2) := dk_16 100 (dk_at dksX5_order_1 7 rfl rfl)
theorem dX5_order_33 : decode cX5_order 33 = .ok (.if_icmp .eq 13, 3) := dk_159 0 13 (dk_at dksX5_order_1 9 rfl rfl)
theorem dX5_order_36 : decode cX5_order 36 = .ok (.iload_n 1, 1) := dk_27 (dk_at dksX5_order_1 12 rfl rfl)
theorem dX5_order_37 : decode cX5_order 37 = .ok (.bipush 116, 2) := dk_16 116 (dk_at dksX5_order_1 13 rfl rfl)
theorem dX5_order_39 : decode cX5_order 39 = .ok (.if_icmp .eq 7, 3) := dk_159 0 7 (dk_at dksX5_order_1 15 rfl rfl)
theorem dX5_order_42 : decode cX5_order 42 = .ok (.iconst 1, 1) := dk_4 (dk_at dksX5_order_1 18 rfl rfl)
theorem dX5_order_43 : decode cX5_order 43 = .ok (.goto 4, 3) := dk_167 0 4 (dk_at dksX5_order_1 19 rfl rfl)
theorem dX5_order_46 : decode cX5_order 46 = .ok (.iconst 0, 1) := dk_3 (dk_at dksX5_order_1 22 rfl rfl)
theorem dX5_order_47 : decode cX5_order 47 = .ok (.putfield 246, 3) := dk_181 0 246 (dk_at dksX5_order_2 0 rfl rfl)
theorem dX5_order_50 : decode cX5_order 50 = .ok (.aload_n 0, 1) := dk_42 (dk_at dksX5_order_2 3 rfl rfl)
theorem dX5_order_51 : decode cX5_order 51 = .ok (.getfield 246, 3) := dk_180 0 246 (dk_at dksX5_order_2 4 rfl rfl)
theorem dX5_order_54 : decode cX5_order 54 = .ok (.ifCond .eq 4, 3) := dk_153 0 4 (dk_at dksX5_order_2 7 rfl rfl)
theorem dX5_order_57 : decode cX5_order 57 = .ok (.return_, 1) := dk_177 (dk_at dksX5_order_2 10 rfl rfl)
theorem dX5_order_58 : decode cX5_order 58 = .ok (.aload_n 0, 1) := dk_42 (dk_at dksX5_order_2 11 rfl rfl)
theorem dX5_order_59 : decode cX5_order 59 = .ok (.dup, 1) := dk_89 (dk_at dksX5_order_2 12 rfl rfl)
theorem dX5_order_60 : decode cX5_order 60 = .ok (.getfield 240, 3) := dk_180 0 240 (dk_at dksX5_order_2 13 rfl rfl)
theorem dX5_order_63 : decode cX5_order 63 = .ok (.iconst 1, 1) := dk_4 (dk_at dksX5_order_2 16 rfl rfl)
theorem dX5_order_64 : decode cX5_order 64 = .ok (.iadd, 1) := dk_96 (dk_at dksX5_order_2 17 rfl rfl)
theorem dX5_order_65 : decode cX5_order 65 = .ok (.putfield 240, 3) := dk_181 0 240 (dk_at dksX5_order_2 18 rfl rfl)
theorem dX5_order_68 : decode cX5_order 68 = .ok (.aload_n 0, 1) := dk_42 (dk_at dksX5_order_2 21 rfl rfl)
theorem dX5_order_69 : decode cX5_order 69 = .ok (.getfield 68, 3) := dk_180 0 68 (dk_at dksX5_order_3 0 rfl rfl)
theorem dX5_order_72 : decode cX5_order 72 = .ok (.iconst 0, 1) := dk_3 (dk_at dksX5_order_3 3 rfl rfl)
theorem dX5_order_73 : decode cX5_order 73 = .ok (.aload_n 0, 1) := dk_42 (dk_at dksX5_order_3 4 rfl rfl)
theorem dX5_order_74 : decode cX5_order 74 = .ok (.iconst 1, 1) := dk_4 (dk_at dksX5_order_3 5 rfl rfl)
theorem dX5_order_75 : decode cX5_order 75 = .ok (.invokevirtual 256, 3) := dk_182 1 0 (dk_at dksX5_order_3 6 rfl rfl)
theorem dX5_order_78 : decode cX5_order 78 = .ok (.iastore, 1) := dk_79 (dk_at dksX5_order_3 9 rfl rfl)
theorem dX5_order_79 : decode cX5_order 79 = .ok (.iload_n 1, 1) := dk_27 (dk_at dksX5_order_3 10 rfl rfl)
theorem dX5_order_80 : decode cX5_order 80 = .ok (.bipush 102, 2) := dk_16 102 (dk_at dksX5_order_3 11 rfl rfl)
theorem dX5_order_82 : decode cX5_order 82 = .ok (.if_icmp .ne 7, 3) := dk_160 0 7 (dk_at dksX5_order_3 13 rfl rfl)
theorem dX5_order_85 : decode cX5_order 85 = .ok (.aload_n 0, 1) := dk_42 (dk_at dksX5_order_3 16 rfl rfl)
theorem dX5_order_86 : decode cX5_order 86 = .ok (.invokevirtual 265, 3) := dk_182 1 9 (dk_at dksX5_order_3 17 rfl rfl)
theorem dX5_order_89 : decode cX5_order 89 = .ok (.iload_n 1, 1) := dk_27 (dk_at dksX5_order_3 20 rfl rfl)
theorem dX5_order_90 : decode cX5_order 90 = .ok (.bipush 97, 2) := dk_16 97 (dk_at dksX5_order_3 21 rfl rfl)
theorem dX5_order_92 : decode cX5_order 92 = .ok (.if_icmp .ne 7, 3) := dk_160 0 7 (dk_at dksX5_order_4 0 rfl rfl)
theorem dX5_order_95 : decode cX5_order 95 = .ok (.aload_n 0, 1) := dk_42 (dk_at dksX5_order_4 3 rfl rfl)
theorem dX5_order_96 : decode cX5_order 96 = .ok (.invokevirtual 268, 3) := dk_182 1 12 (dk_at dksX5_order_4 4 rfl rfl)
theorem dX5_order_99 : decode cX5_order 99 = .ok (.iload_n 1, 1) := dk_27 (dk_at dksX5_order_4 7 rfl rfl)
theorem dX5_order_100 : decode cX5_order 100 = .ok (.bipush 119, 2) := dk_16 119 (dk_at dksX5_order_4 8 rfl rfl)
theorem dX5_order_102 : decode cX5_order 102 = .ok (.if_icmp .eq 9, 3) := dk_159 0 9 (dk_at dksX5_order_4 10 rfl rfl)
theorem dX5_order_105 : decode cX5_order 105 = .ok (.iload_n 1, 1) := dk_27 (dk_at dksX5_order_4 13 rfl rfl)
theorem dX5_order_106 : decode cX5_order 106 = .ok (.bipush 100, 2) := dk_16 100 (dk_at dksX5_order_4 14 rfl rfl)
theorem dX5_order_108 : decode cX5_order 108 = .ok (.if_icmp .ne 16, 3) := dk_160 0 16 (dk_at dksX5_order_4 16 rfl rfl)
theorem dX5_order_111 : decode cX5_order 111 = .ok (.aload_n 0, 1) := dk_42 (dk_at dksX5_order_4 19 rfl rfl)
theorem dX5_order_112 : decode cX5_order 112 = .ok (.getfield 68, 3) := dk_180 0 68 (dk_at dksX5_order_4 20 rfl rfl)
theorem dX5_order_115 : decode cX5_order 115 = .ok (.iconst 1, 1) := dk_4 (dk_at dksX5_order_4 23 rfl rfl)
theorem dX5_order_116 : decode cX5_order 116 = .ok (.aload_n 0, 1) := dk_42 (dk_at dksX5_order_5 0 rfl rfl)
theorem dX5_order_117 : decode cX5_order 117 = .ok (.bipush 46, 2) := dk_16 46 (dk_at dksX5_order_5 1 rfl rfl)
theorem dX5_order_119 : decode cX5_order 119 = .ok (.iconst 2, 1) := dk_5 (dk_at dksX5_order_5 3 rfl rfl)
theorem dX5_order_120 : decode cX5_order 120 = .ok (.invokevirtual 259, 3) := dk_182 1 3 (dk_at dksX5_order_5 4 rfl rfl)
theorem dX5_order_123 : decode cX5_order 123 = .ok (.iastore, 1) := dk_79 (dk_at dksX5_order_5 7 rfl rfl)
theorem dX5_order_124 : decode cX5_order 124 = .ok (.iload_n 1, 1) := dk_27 (dk_at dksX5_order_5 8 rfl rfl)
theorem dX5_order_125 : decode cX5_order 125 = .ok (.bipush 119, 2) := dk_16 119 (dk_at dksX5_order_5 9 rfl rfl)
theorem dX5_order_127 : decode cX5_order 127 = .ok (.if_icmp .ne 16, 3) := dk_160 0 16 (dk_at dksX5_order_5 11 rfl rfl)
theorem dX5_order_130 : decode cX5_order 130 = .ok (.aload_n 0, 1) := dk_42 (dk_at dksX5_order_5 14 rfl rfl)
theorem dX5_order_131 : decode cX5_order 131 = .ok (.getfield 68, 3) := dk_180 0 68 (dk_at dksX5_order_5 15 rfl rfl)
theorem dX5_order_134 : decode cX5_order 134 = .ok (.iconst 2, 1) := dk_5 (dk_at dksX5_order_5 18 rfl rfl)
theorem dX5_order_135 : decode cX5_order 135 = .ok (.aload_n 0, 1) := dk_42 (dk_at dksX5_order_5 19 rfl rfl)
theorem dX5_order_136 : decode cX5_order 136 = .ok (.bipush 61, 2) := dk_16 61 (dk_at dksX5_order_5 20 rfl rfl)
theorem dX5_order_138 : decode cX5_order 138 = .ok (.iconst 1, 1) := dk_4 (dk_at dksX5_order_5 22 rfl rfl)
theorem dX5_order_139 : decode cX5_order 139 = .ok (.invokevirtual 259, 3) := dk_182 1 3 (dk_at dksX5_order_6 0 rfl rfl)
theorem dX5_order_142 : decode cX5_order 142 = .ok (.iastore, 1) := dk_79 (dk_at dksX5_order_6 3 rfl rfl)
theorem dX5_order_143 : decode cX5_order 143 = .ok (.aload_n 0, 1) := dk_42 (dk_at dksX5_order_6 4 rfl rfl)
theorem dX5_order_144 : decode cX5_order 144 = .ok (.getfield 246, 3) := dk_180 0 246 (dk_at dksX5_order_6 5 rfl rfl)
theorem dX5_order_147 : decode cX5_order 147 = .ok (.ifCond .ne 10, 3) := dk_154 0 10 (dk_at dksX5_order_6 8 rfl rfl)
theorem dX5_order_150 : decode cX5_order 150 = .ok (.aload_n 0, 1) := dk_42 (dk_at dksX5_order_6 11 rfl rfl)
theorem dX5_order_151 : decode cX5_order 151 = .ok (.getfield 271, 3) := dk_180 1 15 (dk_at dksX5_order_6 12 rfl rfl)
theorem dX5_order_154 : decode cX5_order 154 = .ok (.ifCond .ne 4, 3) := dk_154 0 4 (dk_at dksX5_order_6 15 rfl rfl)
theorem dX5_order_157 : decode cX5_order 157 = .ok (.return_, 1) := dk_177 (dk_at dksX5_order_6 18 rfl rfl)
theorem dX5_order_158 : decode cX5_order 158 = .ok (.aload_n 0, 1) := dk_42 (dk_at dksX5_order_6 19 rfl rfl)
theorem dX5_order_159 : decode cX5_order 159 = .ok (.iload_n 1, 1) := dk_27 (dk_at dksX5_order_6 20 rfl rfl)
theorem dX5_order_160 : decode cX5_order 160 = .ok (.invokevirtual 274, 3) := dk_182 1 18 (dk_at dksX5_order_6 21 rfl rfl)
theorem dX5_order_163 : decode cX5_order 163 = .ok (.istore_n 2, 1) := dk_61 (dk_at dksX5_order_7 0 rfl rfl)
theorem dX5_order_164 : decode cX5_order 164 = .ok (.return_, 1) := dk_177 (dk_at dksX5_order_7 1 rfl rfl)
abbrev cX5_next : ByteArray := prog_19_method_60_code
def yX5_next : MethodName := ⟨RX5, "next", "()I"⟩
def dkwX5_next_1 : List UInt8 := [172]
abbrev dktX5_next_1 : List UInt8 := dkwX5_next_1 ++ []
def dkwX5_next_0 : List UInt8 := [42, 180, 0, 240, 42, 180, 0, 243, 162, 0, 15, 42, 180, 0, 46, 42, 180, 0, 240, 46, 167, 0, 4, 2]
abbrev dktX5_next_0 : List UInt8 := dkwX5_next_0 ++ dktX5_next_1
theorem dksX5_next_0 : cX5_next.data.toList.drop 0 = dktX5_next_0 := by decide +kernel
theorem dksX5_next_1 : cX5_next.data.toList.drop 24 = dktX5_next_1 := dk_seg dksX5_next_0 24 rfl rfl
theorem dX5_next_0 : decode cX5_next 0 = .ok (.aload_n 0, 1) := dk_42 (dk_at dksX5_next_0 0 rfl rfl)
theorem dX5_next_1 : decode cX5_next 1 = .ok (.getfield 240, 3) := dk_180 0 240 (dk_at dksX5_next_0 1 rfl rfl)
theorem dX5_next_4 : decode cX5_next 4 = .ok (.aload_n 0, 1) := dk_42 (dk_at dksX5_next_0 4 rfl rfl)
theorem dX5_next_5 : decode cX5_next 5 = .ok (.getfield 243, 3) := dk_180 0 243 (dk_at dksX5_next_0 5 rfl rfl)
theorem dX5_next_8 : decode cX5_next 8 = .ok (.if_icmp .ge 15, 3) := dk_162 0 15 (dk_at dksX5_next_0 8 rfl rfl)
theorem dX5_next_11 : decode cX5_next 11 = .ok (.aload_n 0, 1) := dk_42 (dk_at dksX5_next_0 11 rfl rfl)
theorem dX5_next_12 : decode cX5_next 12 = .ok (.getfield 46, 3) := dk_180 0 46 (dk_at dksX5_next_0 12 rfl rfl)
theorem dX5_next_15 : decode cX5_next 15 = .ok (.aload_n 0, 1) := dk_42 (dk_at dksX5_next_0 15 rfl rfl)
theorem dX5_next_16 : decode cX5_next 16 = .ok (.getfield 240, 3) := dk_180 0 240 (dk_at dksX5_next_0 16 rfl rfl)
theorem dX5_next_19 : decode cX5_next 19 = .ok (.iaload, 1) := dk_46 (dk_at dksX5_next_0 19 rfl rfl)
theorem dX5_next_20 : decode cX5_next 20 = .ok (.goto 4, 3) := dk_167 0 4 (dk_at dksX5_next_0 20 rfl rfl)
theorem dX5_next_23 : decode cX5_next 23 = .ok (.iconst (-1), 1) := dk_2 (dk_at dksX5_next_0 23 rfl rfl)
theorem dX5_next_24 : decode cX5_next 24 = .ok (.ireturn, 1) := dk_172 (dk_at dksX5_next_1 0 rfl rfl)
abbrev cX5_digits : ByteArray := prog_19_method_62_code
def yX5_digits : MethodName := ⟨RX5, "digits", "(I)I"⟩
def dkwX5_digits_3 : List UInt8 := [3, 128, 181, 0, 246, 28, 172]
abbrev dktX5_digits_3 : List UInt8 := dkwX5_digits_3 ++ []
def dkwX5_digits_2 : List UInt8 := [4, 96, 181, 0, 240, 132, 3, 1, 167, 255, 204, 42, 89, 180, 0, 246, 29, 154, 0, 7, 4, 167, 0, 4]
abbrev dktX5_digits_2 : List UInt8 := dkwX5_digits_2 ++ dktX5_digits_3
def dkwX5_digits_1 : List UInt8 := [184, 0, 95, 153, 0, 32, 16, 10, 28, 104, 42, 182, 0, 250, 96, 16, 48, 100, 61, 42, 89, 180, 0, 240]
abbrev dktX5_digits_1 : List UInt8 := dkwX5_digits_1 ++ dktX5_digits_2
def dkwX5_digits_0 : List UInt8 := [3, 61, 3, 62, 42, 180, 0, 246, 154, 0, 51, 29, 27, 162, 0, 46, 42, 182, 0, 250, 16, 48, 16, 57]
abbrev dktX5_digits_0 : List UInt8 := dkwX5_digits_0 ++ dktX5_digits_1
theorem dksX5_digits_0 : cX5_digits.data.toList.drop 0 = dktX5_digits_0 := by decide +kernel
theorem dksX5_digits_1 : cX5_digits.data.toList.drop 24 = dktX5_digits_1 := dk_seg dksX5_digits_0 24 rfl rfl
theorem dksX5_digits_2 : cX5_digits.data.toList.drop 48 = dktX5_digits_2 := dk_seg dksX5_digits_1 24 rfl rfl
theorem dksX5_digits_3 : cX5_digits.data.toList.drop 72 = dktX5_digits_3 := dk_seg dksX5_digits_2 24 rfl rfl
theorem dX5_digits_0 : decode cX5_digits 0 = .ok (.iconst 0, 1) := dk_3 (dk_at dksX5_digits_0 0 rfl rfl)
theorem dX5_digits_1 : decode cX5_digits 1 = .ok (.istore_n 2, 1) := dk_61 (dk_at dksX5_digits_0 1 rfl rfl)
theorem dX5_digits_2 : decode cX5_digits 2 = .ok (.iconst 0, 1) := dk_3 (dk_at dksX5_digits_0 2 rfl rfl)
theorem dX5_digits_3 : decode cX5_digits 3 = .ok (.istore_n 3, 1) := dk_62 (dk_at dksX5_digits_0 3 rfl rfl)
theorem dX5_digits_4 : decode cX5_digits 4 = .ok (.aload_n 0, 1) := dk_42 (dk_at dksX5_digits_0 4 rfl rfl)
theorem dX5_digits_5 : decode cX5_digits 5 = .ok (.getfield 246, 3) := dk_180 0 246 (dk_at dksX5_digits_0 5 rfl rfl)
theorem dX5_digits_8 : decode cX5_digits 8 = .ok (.ifCond .ne 51, 3) := dk_154 0 51 (dk_at dksX5_digits_0 8 rfl rfl)
theorem dX5_digits_11 : decode cX5_digits 11 = .ok (.iload_n 3, 1) := dk_29 (dk_at dksX5_digits_0 11 rfl rfl)
theorem dX5_digits_12 : decode cX5_digits 12 = .ok (.iload_n 1, 1) := dk_27 (dk_at dksX5_digits_0 12 rfl rfl)
theorem dX5_digits_13 : decode cX5_digits 13 = .ok (.if_icmp .ge 46, 3) := dk_162 0 46 (dk_at dksX5_digits_0 13 rfl rfl)
theorem dX5_digits_16 : decode cX5_digits 16 = .ok (.aload_n 0, 1) := dk_42 (dk_at dksX5_digits_0 16 rfl rfl)
theorem dX5_digits_17 : decode cX5_digits 17 = .ok (.invokevirtual 250, 3) := dk_182 0 250 (dk_at dksX5_digits_0 17 rfl rfl)
theorem dX5_digits_20 : decode cX5_digits 20 = .ok (.bipush 48, 2) := dk_16 48 (dk_at dksX5_digits_0 20 rfl rfl)
theorem dX5_digits_22 : decode cX5_digits 22 = .ok (.bipush 57, 2) := dk_16 57 (dk_at dksX5_digits_0 22 rfl rfl)
theorem dX5_digits_24 : decode cX5_digits 24 = .ok (.invokestatic 95, 3) := dk_184 0 95 (dk_at dksX5_digits_1 0 rfl rfl)
theorem dX5_digits_27 : decode cX5_digits 27 = .ok (.ifCond .eq 32, 3) := dk_153 0 32 (dk_at dksX5_digits_1 3 rfl rfl)
theorem dX5_digits_30 : decode cX5_digits 30 = .ok (.bipush 10, 2) := dk_16 10 (dk_at dksX5_digits_1 6 rfl rfl)
theorem dX5_digits_32 : decode cX5_digits 32 = .ok (.iload_n 2, 1) := dk_28 (dk_at dksX5_digits_1 8 rfl rfl)
theorem dX5_digits_33 : decode cX5_digits 33 = .ok (.imul, 1) := dk_104 (dk_at dksX5_digits_1 9 rfl rfl)
theorem dX5_digits_34 : decode cX5_digits 34 = .ok (.aload_n 0, 1) := dk_42 (dk_at dksX5_digits_1 10 rfl rfl)
theorem dX5_digits_35 : decode cX5_digits 35 = .ok (.invokevirtual 250, 3) := dk_182 0 250 (dk_at dksX5_digits_1 11 rfl rfl)
theorem dX5_digits_38 : decode cX5_digits 38 = .ok (.iadd, 1) := dk_96 (dk_at dksX5_digits_1 14 rfl rfl)
theorem dX5_digits_39 : decode cX5_digits 39 = .ok (.bipush 48, 2) := dk_16 48 (dk_at dksX5_digits_1 15 rfl rfl)
theorem dX5_digits_41 : decode cX5_digits 41 = .ok (.isub, 1) := dk_100 (dk_at dksX5_digits_1 17 rfl rfl)
theorem dX5_digits_42 : decode cX5_digits 42 = .ok (.istore_n 2, 1) := dk_61 (dk_at dksX5_digits_1 18 rfl rfl)
theorem dX5_digits_43 : decode cX5_digits 43 = .ok (.aload_n 0, 1) := dk_42 (dk_at dksX5_digits_1 19 rfl rfl)
theorem dX5_digits_44 : decode cX5_digits 44 = .ok (.dup, 1) := dk_89 (dk_at dksX5_digits_1 20 rfl rfl)
theorem dX5_digits_45 : decode cX5_digits 45 = .ok (.getfield 240, 3) := dk_180 0 240 (dk_at dksX5_digits_1 21 rfl rfl)
theorem dX5_digits_48 : decode cX5_digits 48 = .ok (.iconst 1, 1) := dk_4 (dk_at dksX5_digits_2 0 rfl rfl)
theorem dX5_digits_49 : decode cX5_digits 49 = .ok (.iadd, 1) := dk_96 (dk_at dksX5_digits_2 1 rfl rfl)
theorem dX5_digits_50 : decode cX5_digits 50 = .ok (.putfield 240, 3) := dk_181 0 240 (dk_at dksX5_digits_2 2 rfl rfl)
theorem dX5_digits_53 : decode cX5_digits 53 = .ok (.iinc 3 1, 3) := dk_132 3 1 (dk_at dksX5_digits_2 5 rfl rfl)
theorem dX5_digits_56 : decode cX5_digits 56 = .ok (.goto (-52), 3) := dk_167 255 204 (dk_at dksX5_digits_2 8 rfl rfl)
theorem dX5_digits_59 : decode cX5_digits 59 = .ok (.aload_n 0, 1) := dk_42 (dk_at dksX5_digits_2 11 rfl rfl)
theorem dX5_digits_60 : decode cX5_digits 60 = .ok (.dup, 1) := dk_89 (dk_at dksX5_digits_2 12 rfl rfl)
theorem dX5_digits_61 : decode cX5_digits 61 = .ok (.getfield 246, 3) := dk_180 0 246 (dk_at dksX5_digits_2 13 rfl rfl)
theorem dX5_digits_64 : decode cX5_digits 64 = .ok (.iload_n 3, 1) := dk_29 (dk_at dksX5_digits_2 16 rfl rfl)
theorem dX5_digits_65 : decode cX5_digits 65 = .ok (.ifCond .ne 7, 3) := dk_154 0 7 (dk_at dksX5_digits_2 17 rfl rfl)
theorem dX5_digits_68 : decode cX5_digits 68 = .ok (.iconst 1, 1) := dk_4 (dk_at dksX5_digits_2 20 rfl rfl)
theorem dX5_digits_69 : decode cX5_digits 69 = .ok (.goto 4, 3) := dk_167 0 4 (dk_at dksX5_digits_2 21 rfl rfl)
theorem dX5_digits_72 : decode cX5_digits 72 = .ok (.iconst 0, 1) := dk_3 (dk_at dksX5_digits_3 0 rfl rfl)
theorem dX5_digits_73 : decode cX5_digits 73 = .ok (.ior, 1) := dk_128 (dk_at dksX5_digits_3 1 rfl rfl)
theorem dX5_digits_74 : decode cX5_digits 74 = .ok (.putfield 246, 3) := dk_181 0 246 (dk_at dksX5_digits_3 2 rfl rfl)
theorem dX5_digits_77 : decode cX5_digits 77 = .ok (.iload_n 2, 1) := dk_28 (dk_at dksX5_digits_3 5 rfl rfl)
theorem dX5_digits_78 : decode cX5_digits 78 = .ok (.ireturn, 1) := dk_172 (dk_at dksX5_digits_3 6 rfl rfl)
abbrev cX5_endTold : ByteArray := prog_19_method_66_code
def yX5_endTold : MethodName := ⟨RX5, "endTold", "()V"⟩
def dkwX5_endTold_3 : List UInt8 := [167, 0, 19, 42, 180, 0, 246, 153, 0, 7, 3, 167, 0, 8, 42, 4, 182, 1, 0, 79, 177]
abbrev dktX5_endTold_3 : List UInt8 := dkwX5_endTold_3 ++ []
def dkwX5_endTold_2 : List UInt8 := [153, 0, 7, 4, 167, 0, 4, 3, 96, 181, 0, 240, 42, 180, 0, 68, 5, 27, 153, 0, 7, 2]
abbrev dktX5_endTold_2 : List UInt8 := dkwX5_endTold_2 ++ dktX5_endTold_3
def dkwX5_endTold_1 : List UInt8 := [154, 0, 16, 42, 182, 0, 250, 16, 45, 160, 0, 7, 4, 167, 0, 4, 3, 60, 42, 89, 180, 0, 240, 27]
abbrev dktX5_endTold_1 : List UInt8 := dkwX5_endTold_1 ++ dktX5_endTold_2
def dkwX5_endTold_0 : List UInt8 := [42, 180, 0, 68, 4, 42, 16, 46, 4, 182, 1, 3, 79, 42, 16, 61, 182, 0, 253, 42, 180, 0, 246]
abbrev dktX5_endTold_0 : List UInt8 := dkwX5_endTold_0 ++ dktX5_endTold_1
theorem dksX5_endTold_0 : cX5_endTold.data.toList.drop 0 = dktX5_endTold_0 := by decide +kernel
theorem dksX5_endTold_1 : cX5_endTold.data.toList.drop 23 = dktX5_endTold_1 := dk_seg dksX5_endTold_0 23 rfl rfl
theorem dksX5_endTold_2 : cX5_endTold.data.toList.drop 47 = dktX5_endTold_2 := dk_seg dksX5_endTold_1 24 rfl rfl
theorem dksX5_endTold_3 : cX5_endTold.data.toList.drop 69 = dktX5_endTold_3 := dk_seg dksX5_endTold_2 22 rfl rfl
theorem dX5_endTold_0 : decode cX5_endTold 0 = .ok (.aload_n 0, 1) := dk_42 (dk_at dksX5_endTold_0 0 rfl rfl)
theorem dX5_endTold_1 : decode cX5_endTold 1 = .ok (.getfield 68, 3) := dk_180 0 68 (dk_at dksX5_endTold_0 1 rfl rfl)
theorem dX5_endTold_4 : decode cX5_endTold 4 = .ok (.iconst 1, 1) := dk_4 (dk_at dksX5_endTold_0 4 rfl rfl)
theorem dX5_endTold_5 : decode cX5_endTold 5 = .ok (.aload_n 0, 1) := dk_42 (dk_at dksX5_endTold_0 5 rfl rfl)
theorem dX5_endTold_6 : decode cX5_endTold 6 = .ok (.bipush 46, 2) := dk_16 46 (dk_at dksX5_endTold_0 6 rfl rfl)
theorem dX5_endTold_8 : decode cX5_endTold 8 = .ok (.iconst 1, 1) := dk_4 (dk_at dksX5_endTold_0 8 rfl rfl)
theorem dX5_endTold_9 : decode cX5_endTold 9 = .ok (.invokevirtual 259, 3) := dk_182 1 3 (dk_at dksX5_endTold_0 9 rfl rfl)
theorem dX5_endTold_12 : decode cX5_endTold 12 = .ok (.iastore, 1) := dk_79 (dk_at dksX5_endTold_0 12 rfl rfl)
theorem dX5_endTold_13 : decode cX5_endTold 13 = .ok (.aload_n 0, 1) := dk_42 (dk_at dksX5_endTold_0 13 rfl rfl)
theorem dX5_endTold_14 : decode cX5_endTold 14 = .ok (.bipush 61, 2) := dk_16 61 (dk_at dksX5_endTold_0 14 rfl rfl)
theorem dX5_endTold_16 : decode cX5_endTold 16 = .ok (.invokevirtual 253, 3) := dk_182 0 253 (dk_at dksX5_endTold_0 16 rfl rfl)
theorem dX5_endTold_19 : decode cX5_endTold 19 = .ok (.aload_n 0, 1) := dk_42 (dk_at dksX5_endTold_0 19 rfl rfl)
theorem dX5_endTold_20 : decode cX5_endTold 20 = .ok (.getfield 246, 3) := dk_180 0 246 (dk_at dksX5_endTold_0 20 rfl rfl)
theorem dX5_endTold_23 : decode cX5_endTold 23 = .ok (.ifCond .ne 16, 3) := dk_154 0 16 (dk_at dksX5_endTold_1 0 rfl rfl)
theorem dX5_endTold_26 : decode cX5_endTold 26 = .ok (.aload_n 0, 1) := dk_42 (dk_at dksX5_endTold_1 3 rfl rfl)
theorem dX5_endTold_27 : decode cX5_endTold 27 = .ok (.invokevirtual 250, 3) := dk_182 0 250 (dk_at dksX5_endTold_1 4 rfl rfl)
theorem dX5_endTold_30 : decode cX5_endTold 30 = .ok (.bipush 45, 2) := dk_16 45 (dk_at dksX5_endTold_1 7 rfl rfl)
theorem dX5_endTold_32 : decode cX5_endTold 32 = .ok (.if_icmp .ne 7, 3) := dk_160 0 7 (dk_at dksX5_endTold_1 9 rfl rfl)
theorem dX5_endTold_35 : decode cX5_endTold 35 = .ok (.iconst 1, 1) := dk_4 (dk_at dksX5_endTold_1 12 rfl rfl)
theorem dX5_endTold_36 : decode cX5_endTold 36 = .ok (.goto 4, 3) := dk_167 0 4 (dk_at dksX5_endTold_1 13 rfl rfl)
theorem dX5_endTold_39 : decode cX5_endTold 39 = .ok (.iconst 0, 1) := dk_3 (dk_at dksX5_endTold_1 16 rfl rfl)
theorem dX5_endTold_40 : decode cX5_endTold 40 = .ok (.istore_n 1, 1) := dk_60 (dk_at dksX5_endTold_1 17 rfl rfl)
theorem dX5_endTold_41 : decode cX5_endTold 41 = .ok (.aload_n 0, 1) := dk_42 (dk_at dksX5_endTold_1 18 rfl rfl)
theorem dX5_endTold_42 : decode cX5_endTold 42 = .ok (.dup, 1) := dk_89 (dk_at dksX5_endTold_1 19 rfl rfl)
theorem dX5_endTold_43 : decode cX5_endTold 43 = .ok (.getfield 240, 3) := dk_180 0 240 (dk_at dksX5_endTold_1 20 rfl rfl)
theorem dX5_endTold_46 : decode cX5_endTold 46 = .ok (.iload_n 1, 1) := dk_27 (dk_at dksX5_endTold_1 23 rfl rfl)
theorem dX5_endTold_47 : decode cX5_endTold 47 = .ok (.ifCond .eq 7, 3) := dk_153 0 7 (dk_at dksX5_endTold_2 0 rfl rfl)
theorem dX5_endTold_50 : decode cX5_endTold 50 = .ok (.iconst 1, 1) := dk_4 (dk_at dksX5_endTold_2 3 rfl rfl)
theorem dX5_endTold_51 : decode cX5_endTold 51 = .ok (.goto 4, 3) := dk_167 0 4 (dk_at dksX5_endTold_2 4 rfl rfl)
theorem dX5_endTold_54 : decode cX5_endTold 54 = .ok (.iconst 0, 1) := dk_3 (dk_at dksX5_endTold_2 7 rfl rfl)
theorem dX5_endTold_55 : decode cX5_endTold 55 = .ok (.iadd, 1) := dk_96 (dk_at dksX5_endTold_2 8 rfl rfl)
theorem dX5_endTold_56 : decode cX5_endTold 56 = .ok (.putfield 240, 3) := dk_181 0 240 (dk_at dksX5_endTold_2 9 rfl rfl)
theorem dX5_endTold_59 : decode cX5_endTold 59 = .ok (.aload_n 0, 1) := dk_42 (dk_at dksX5_endTold_2 12 rfl rfl)
theorem dX5_endTold_60 : decode cX5_endTold 60 = .ok (.getfield 68, 3) := dk_180 0 68 (dk_at dksX5_endTold_2 13 rfl rfl)
theorem dX5_endTold_63 : decode cX5_endTold 63 = .ok (.iconst 2, 1) := dk_5 (dk_at dksX5_endTold_2 16 rfl rfl)
theorem dX5_endTold_64 : decode cX5_endTold 64 = .ok (.iload_n 1, 1) := dk_27 (dk_at dksX5_endTold_2 17 rfl rfl)
theorem dX5_endTold_65 : decode cX5_endTold 65 = .ok (.ifCond .eq 7, 3) := dk_153 0 7 (dk_at dksX5_endTold_2 18 rfl rfl)
theorem dX5_endTold_68 : decode cX5_endTold 68 = .ok (.iconst (-1), 1) := dk_2 (dk_at dksX5_endTold_2 21 rfl rfl)
theorem dX5_endTold_69 : decode cX5_endTold 69 = .ok (.goto 19, 3) := dk_167 0 19 (dk_at dksX5_endTold_3 0 rfl rfl)
theorem dX5_endTold_72 : decode cX5_endTold 72 = .ok (.aload_n 0, 1) := dk_42 (dk_at dksX5_endTold_3 3 rfl rfl)
theorem dX5_endTold_73 : decode cX5_endTold 73 = .ok (.getfield 246, 3) := dk_180 0 246 (dk_at dksX5_endTold_3 4 rfl rfl)
theorem dX5_endTold_76 : decode cX5_endTold 76 = .ok (.ifCond .eq 7, 3) := dk_153 0 7 (dk_at dksX5_endTold_3 7 rfl rfl)
theorem dX5_endTold_79 : decode cX5_endTold 79 = .ok (.iconst 0, 1) := dk_3 (dk_at dksX5_endTold_3 10 rfl rfl)
theorem dX5_endTold_80 : decode cX5_endTold 80 = .ok (.goto 8, 3) := dk_167 0 8 (dk_at dksX5_endTold_3 11 rfl rfl)
theorem dX5_endTold_83 : decode cX5_endTold 83 = .ok (.aload_n 0, 1) := dk_42 (dk_at dksX5_endTold_3 14 rfl rfl)
theorem dX5_endTold_84 : decode cX5_endTold 84 = .ok (.iconst 1, 1) := dk_4 (dk_at dksX5_endTold_3 15 rfl rfl)
theorem dX5_endTold_85 : decode cX5_endTold 85 = .ok (.invokevirtual 256, 3) := dk_182 1 0 (dk_at dksX5_endTold_3 16 rfl rfl)
theorem dX5_endTold_88 : decode cX5_endTold 88 = .ok (.iastore, 1) := dk_79 (dk_at dksX5_endTold_3 19 rfl rfl)
theorem dX5_endTold_89 : decode cX5_endTold 89 = .ok (.return_, 1) := dk_177 (dk_at dksX5_endTold_3 20 rfl rfl)
abbrev cX5_behind : ByteArray := prog_19_method_63_code
def yX5_behind : MethodName := ⟨RX5, "behind", "(II)I"⟩
def dkwX5_behind_0 : List UInt8 := [42, 27, 182, 0, 253, 42, 180, 0, 246, 153, 0, 7, 3, 167, 0, 8, 42, 28, 182, 1, 0, 172]
abbrev dktX5_behind_0 : List UInt8 := dkwX5_behind_0 ++ []
theorem dksX5_behind_0 : cX5_behind.data.toList.drop 0 = dktX5_behind_0 := by decide +kernel
theorem dX5_behind_0 : decode cX5_behind 0 = .ok (.aload_n 0, 1) := dk_42 (dk_at dksX5_behind_0 0 rfl rfl)
theorem dX5_behind_1 : decode cX5_behind 1 = .ok (.iload_n 1, 1) := dk_27 (dk_at dksX5_behind_0 1 rfl rfl)
theorem dX5_behind_2 : decode cX5_behind 2 = .ok (.invokevirtual 253, 3) := dk_182 0 253 (dk_at dksX5_behind_0 2 rfl rfl)
theorem dX5_behind_5 : decode cX5_behind 5 = .ok (.aload_n 0, 1) := dk_42 (dk_at dksX5_behind_0 5 rfl rfl)
theorem dX5_behind_6 : decode cX5_behind 6 = .ok (.getfield 246, 3) := dk_180 0 246 (dk_at dksX5_behind_0 6 rfl rfl)
theorem dX5_behind_9 : decode cX5_behind 9 = .ok (.ifCond .eq 7, 3) := dk_153 0 7 (dk_at dksX5_behind_0 9 rfl rfl)
theorem dX5_behind_12 : decode cX5_behind 12 = .ok (.iconst 0, 1) := dk_3 (dk_at dksX5_behind_0 12 rfl rfl)
theorem dX5_behind_13 : decode cX5_behind 13 = .ok (.goto 8, 3) := dk_167 0 8 (dk_at dksX5_behind_0 13 rfl rfl)
theorem dX5_behind_16 : decode cX5_behind 16 = .ok (.aload_n 0, 1) := dk_42 (dk_at dksX5_behind_0 16 rfl rfl)
theorem dX5_behind_17 : decode cX5_behind 17 = .ok (.iload_n 2, 1) := dk_28 (dk_at dksX5_behind_0 17 rfl rfl)
theorem dX5_behind_18 : decode cX5_behind 18 = .ok (.invokevirtual 256, 3) := dk_182 1 0 (dk_at dksX5_behind_0 18 rfl rfl)
theorem dX5_behind_21 : decode cX5_behind 21 = .ok (.ireturn, 1) := dk_172 (dk_at dksX5_behind_0 21 rfl rfl)
abbrev cX5_mark : ByteArray := prog_19_method_61_code
def yX5_mark : MethodName := ⟨RX5, "mark", "(I)V"⟩
def dkwX5_mark_2 : List UInt8 := [177]
abbrev dktX5_mark_2 : List UInt8 := dkwX5_mark_2 ++ []
def dkwX5_mark_1 : List UInt8 := [181, 0, 246, 42, 89, 180, 0, 240, 42, 180, 0, 246, 153, 0, 7, 3, 167, 0, 4, 4, 96, 181, 0, 240]
abbrev dktX5_mark_1 : List UInt8 := dkwX5_mark_1 ++ dktX5_mark_2
def dkwX5_mark_0 : List UInt8 := [42, 180, 0, 246, 153, 0, 4, 177, 42, 42, 182, 0, 250, 27, 159, 0, 7, 4, 167, 0, 4, 3]
abbrev dktX5_mark_0 : List UInt8 := dkwX5_mark_0 ++ dktX5_mark_1
theorem dksX5_mark_0 : cX5_mark.data.toList.drop 0 = dktX5_mark_0 := by decide +kernel
theorem dksX5_mark_1 : cX5_mark.data.toList.drop 22 = dktX5_mark_1 := dk_seg dksX5_mark_0 22 rfl rfl
theorem dksX5_mark_2 : cX5_mark.data.toList.drop 46 = dktX5_mark_2 := dk_seg dksX5_mark_1 24 rfl rfl
theorem dX5_mark_0 : decode cX5_mark 0 = .ok (.aload_n 0, 1) := dk_42 (dk_at dksX5_mark_0 0 rfl rfl)
theorem dX5_mark_1 : decode cX5_mark 1 = .ok (.getfield 246, 3) := dk_180 0 246 (dk_at dksX5_mark_0 1 rfl rfl)
theorem dX5_mark_4 : decode cX5_mark 4 = .ok (.ifCond .eq 4, 3) := dk_153 0 4 (dk_at dksX5_mark_0 4 rfl rfl)
theorem dX5_mark_7 : decode cX5_mark 7 = .ok (.return_, 1) := dk_177 (dk_at dksX5_mark_0 7 rfl rfl)
theorem dX5_mark_8 : decode cX5_mark 8 = .ok (.aload_n 0, 1) := dk_42 (dk_at dksX5_mark_0 8 rfl rfl)
theorem dX5_mark_9 : decode cX5_mark 9 = .ok (.aload_n 0, 1) := dk_42 (dk_at dksX5_mark_0 9 rfl rfl)
theorem dX5_mark_10 : decode cX5_mark 10 = .ok (.invokevirtual 250, 3) := dk_182 0 250 (dk_at dksX5_mark_0 10 rfl rfl)
theorem dX5_mark_13 : decode cX5_mark 13 = .ok (.iload_n 1, 1) := dk_27 (dk_at dksX5_mark_0 13 rfl rfl)
theorem dX5_mark_14 : decode cX5_mark 14 = .ok (.if_icmp .eq 7, 3) := dk_159 0 7 (dk_at dksX5_mark_0 14 rfl rfl)
theorem dX5_mark_17 : decode cX5_mark 17 = .ok (.iconst 1, 1) := dk_4 (dk_at dksX5_mark_0 17 rfl rfl)
theorem dX5_mark_18 : decode cX5_mark 18 = .ok (.goto 4, 3) := dk_167 0 4 (dk_at dksX5_mark_0 18 rfl rfl)
theorem dX5_mark_21 : decode cX5_mark 21 = .ok (.iconst 0, 1) := dk_3 (dk_at dksX5_mark_0 21 rfl rfl)
theorem dX5_mark_22 : decode cX5_mark 22 = .ok (.putfield 246, 3) := dk_181 0 246 (dk_at dksX5_mark_1 0 rfl rfl)
theorem dX5_mark_25 : decode cX5_mark 25 = .ok (.aload_n 0, 1) := dk_42 (dk_at dksX5_mark_1 3 rfl rfl)
theorem dX5_mark_26 : decode cX5_mark 26 = .ok (.dup, 1) := dk_89 (dk_at dksX5_mark_1 4 rfl rfl)
theorem dX5_mark_27 : decode cX5_mark 27 = .ok (.getfield 240, 3) := dk_180 0 240 (dk_at dksX5_mark_1 5 rfl rfl)
theorem dX5_mark_30 : decode cX5_mark 30 = .ok (.aload_n 0, 1) := dk_42 (dk_at dksX5_mark_1 8 rfl rfl)
theorem dX5_mark_31 : decode cX5_mark 31 = .ok (.getfield 246, 3) := dk_180 0 246 (dk_at dksX5_mark_1 9 rfl rfl)
theorem dX5_mark_34 : decode cX5_mark 34 = .ok (.ifCond .eq 7, 3) := dk_153 0 7 (dk_at dksX5_mark_1 12 rfl rfl)
theorem dX5_mark_37 : decode cX5_mark 37 = .ok (.iconst 0, 1) := dk_3 (dk_at dksX5_mark_1 15 rfl rfl)
theorem dX5_mark_38 : decode cX5_mark 38 = .ok (.goto 4, 3) := dk_167 0 4 (dk_at dksX5_mark_1 16 rfl rfl)
theorem dX5_mark_41 : decode cX5_mark 41 = .ok (.iconst 1, 1) := dk_4 (dk_at dksX5_mark_1 19 rfl rfl)
theorem dX5_mark_42 : decode cX5_mark 42 = .ok (.iadd, 1) := dk_96 (dk_at dksX5_mark_1 20 rfl rfl)
theorem dX5_mark_43 : decode cX5_mark 43 = .ok (.putfield 240, 3) := dk_181 0 240 (dk_at dksX5_mark_1 21 rfl rfl)
theorem dX5_mark_46 : decode cX5_mark 46 = .ok (.return_, 1) := dk_177 (dk_at dksX5_mark_2 0 rfl rfl)
abbrev cX5_arcTold : ByteArray := prog_19_method_67_code
def yX5_arcTold : MethodName := ⟨RX5, "arcTold", "()V"⟩
def dkwX5_arcTold_2 : List UInt8 := [182, 1, 6, 79, 42, 180, 0, 68, 8, 42, 16, 61, 4, 182, 1, 3, 79, 177]
abbrev dktX5_arcTold_2 : List UInt8 := dkwX5_arcTold_2 ++ []
def dkwX5_arcTold_1 : List UInt8 := [182, 1, 3, 79, 42, 180, 0, 68, 6, 42, 16, 32, 182, 1, 6, 79, 42, 180, 0, 68, 7, 42, 16, 47]
abbrev dktX5_arcTold_1 : List UInt8 := dkwX5_arcTold_1 ++ dktX5_arcTold_2
def dkwX5_arcTold_0 : List UInt8 := [42, 180, 0, 68, 4, 42, 16, 58, 4, 182, 1, 3, 79, 42, 180, 0, 68, 5, 42, 16, 62, 4]
abbrev dktX5_arcTold_0 : List UInt8 := dkwX5_arcTold_0 ++ dktX5_arcTold_1
theorem dksX5_arcTold_0 : cX5_arcTold.data.toList.drop 0 = dktX5_arcTold_0 := by decide +kernel
theorem dksX5_arcTold_1 : cX5_arcTold.data.toList.drop 22 = dktX5_arcTold_1 := dk_seg dksX5_arcTold_0 22 rfl rfl
theorem dksX5_arcTold_2 : cX5_arcTold.data.toList.drop 46 = dktX5_arcTold_2 := dk_seg dksX5_arcTold_1 24 rfl rfl
theorem dX5_arcTold_0 : decode cX5_arcTold 0 = .ok (.aload_n 0, 1) := dk_42 (dk_at dksX5_arcTold_0 0 rfl rfl)
theorem dX5_arcTold_1 : decode cX5_arcTold 1 = .ok (.getfield 68, 3) := dk_180 0 68 (dk_at dksX5_arcTold_0 1 rfl rfl)
theorem dX5_arcTold_4 : decode cX5_arcTold 4 = .ok (.iconst 1, 1) := dk_4 (dk_at dksX5_arcTold_0 4 rfl rfl)
theorem dX5_arcTold_5 : decode cX5_arcTold 5 = .ok (.aload_n 0, 1) := dk_42 (dk_at dksX5_arcTold_0 5 rfl rfl)
theorem dX5_arcTold_6 : decode cX5_arcTold 6 = .ok (.bipush 58, 2) := dk_16 58 (dk_at dksX5_arcTold_0 6 rfl rfl)
theorem dX5_arcTold_8 : decode cX5_arcTold 8 = .ok (.iconst 1, 1) := dk_4 (dk_at dksX5_arcTold_0 8 rfl rfl)
theorem dX5_arcTold_9 : decode cX5_arcTold 9 = .ok (.invokevirtual 259, 3) := dk_182 1 3 (dk_at dksX5_arcTold_0 9 rfl rfl)
theorem dX5_arcTold_12 : decode cX5_arcTold 12 = .ok (.iastore, 1) := dk_79 (dk_at dksX5_arcTold_0 12 rfl rfl)
theorem dX5_arcTold_13 : decode cX5_arcTold 13 = .ok (.aload_n 0, 1) := dk_42 (dk_at dksX5_arcTold_0 13 rfl rfl)
theorem dX5_arcTold_14 : decode cX5_arcTold 14 = .ok (.getfield 68, 3) := dk_180 0 68 (dk_at dksX5_arcTold_0 14 rfl rfl)
theorem dX5_arcTold_17 : decode cX5_arcTold 17 = .ok (.iconst 2, 1) := dk_5 (dk_at dksX5_arcTold_0 17 rfl rfl)
theorem dX5_arcTold_18 : decode cX5_arcTold 18 = .ok (.aload_n 0, 1) := dk_42 (dk_at dksX5_arcTold_0 18 rfl rfl)
theorem dX5_arcTold_19 : decode cX5_arcTold 19 = .ok (.bipush 62, 2) := dk_16 62 (dk_at dksX5_arcTold_0 19 rfl rfl)
theorem dX5_arcTold_21 : decode cX5_arcTold 21 = .ok (.iconst 1, 1) := dk_4 (dk_at dksX5_arcTold_0 21 rfl rfl)
theorem dX5_arcTold_22 : decode cX5_arcTold 22 = .ok (.invokevirtual 259, 3) := dk_182 1 3 (dk_at dksX5_arcTold_1 0 rfl rfl)
theorem dX5_arcTold_25 : decode cX5_arcTold 25 = .ok (.iastore, 1) := dk_79 (dk_at dksX5_arcTold_1 3 rfl rfl)
theorem dX5_arcTold_26 : decode cX5_arcTold 26 = .ok (.aload_n 0, 1) := dk_42 (dk_at dksX5_arcTold_1 4 rfl rfl)
theorem dX5_arcTold_27 : decode cX5_arcTold 27 = .ok (.getfield 68, 3) := dk_180 0 68 (dk_at dksX5_arcTold_1 5 rfl rfl)
theorem dX5_arcTold_30 : decode cX5_arcTold 30 = .ok (.iconst 3, 1) := dk_6 (dk_at dksX5_arcTold_1 8 rfl rfl)
theorem dX5_arcTold_31 : decode cX5_arcTold 31 = .ok (.aload_n 0, 1) := dk_42 (dk_at dksX5_arcTold_1 9 rfl rfl)
theorem dX5_arcTold_32 : decode cX5_arcTold 32 = .ok (.bipush 32, 2) := dk_16 32 (dk_at dksX5_arcTold_1 10 rfl rfl)
theorem dX5_arcTold_34 : decode cX5_arcTold 34 = .ok (.invokevirtual 262, 3) := dk_182 1 6 (dk_at dksX5_arcTold_1 12 rfl rfl)
theorem dX5_arcTold_37 : decode cX5_arcTold 37 = .ok (.iastore, 1) := dk_79 (dk_at dksX5_arcTold_1 15 rfl rfl)
theorem dX5_arcTold_38 : decode cX5_arcTold 38 = .ok (.aload_n 0, 1) := dk_42 (dk_at dksX5_arcTold_1 16 rfl rfl)
theorem dX5_arcTold_39 : decode cX5_arcTold 39 = .ok (.getfield 68, 3) := dk_180 0 68 (dk_at dksX5_arcTold_1 17 rfl rfl)
theorem dX5_arcTold_42 : decode cX5_arcTold 42 = .ok (.iconst 4, 1) := dk_7 (dk_at dksX5_arcTold_1 20 rfl rfl)
theorem dX5_arcTold_43 : decode cX5_arcTold 43 = .ok (.aload_n 0, 1) := dk_42 (dk_at dksX5_arcTold_1 21 rfl rfl)
theorem dX5_arcTold_44 : decode cX5_arcTold 44 = .ok (.bipush 47, 2) := dk_16 47 (dk_at dksX5_arcTold_1 22 rfl rfl)
theorem dX5_arcTold_46 : decode cX5_arcTold 46 = .ok (.invokevirtual 262, 3) := dk_182 1 6 (dk_at dksX5_arcTold_2 0 rfl rfl)
theorem dX5_arcTold_49 : decode cX5_arcTold 49 = .ok (.iastore, 1) := dk_79 (dk_at dksX5_arcTold_2 3 rfl rfl)
theorem dX5_arcTold_50 : decode cX5_arcTold 50 = .ok (.aload_n 0, 1) := dk_42 (dk_at dksX5_arcTold_2 4 rfl rfl)
theorem dX5_arcTold_51 : decode cX5_arcTold 51 = .ok (.getfield 68, 3) := dk_180 0 68 (dk_at dksX5_arcTold_2 5 rfl rfl)
theorem dX5_arcTold_54 : decode cX5_arcTold 54 = .ok (.iconst 5, 1) := dk_8 (dk_at dksX5_arcTold_2 8 rfl rfl)
theorem dX5_arcTold_55 : decode cX5_arcTold 55 = .ok (.aload_n 0, 1) := dk_42 (dk_at dksX5_arcTold_2 9 rfl rfl)
theorem dX5_arcTold_56 : decode cX5_arcTold 56 = .ok (.bipush 61, 2) := dk_16 61 (dk_at dksX5_arcTold_2 10 rfl rfl)
theorem dX5_arcTold_58 : decode cX5_arcTold 58 = .ok (.iconst 1, 1) := dk_4 (dk_at dksX5_arcTold_2 12 rfl rfl)
theorem dX5_arcTold_59 : decode cX5_arcTold 59 = .ok (.invokevirtual 259, 3) := dk_182 1 3 (dk_at dksX5_arcTold_2 13 rfl rfl)
theorem dX5_arcTold_62 : decode cX5_arcTold 62 = .ok (.iastore, 1) := dk_79 (dk_at dksX5_arcTold_2 16 rfl rfl)
theorem dX5_arcTold_63 : decode cX5_arcTold 63 = .ok (.return_, 1) := dk_177 (dk_at dksX5_arcTold_2 17 rfl rfl)
abbrev cX5_letterBehind : ByteArray := prog_19_method_64_code
def yX5_letterBehind : MethodName := ⟨RX5, "letterBehind", "(I)I"⟩
def dkwX5_letterBehind_3 : List UInt8 := [160, 0, 7, 7, 167, 0, 7, 28, 16, 97, 100, 172]
abbrev dktX5_letterBehind_3 : List UInt8 := dkwX5_letterBehind_3 ++ []
def dkwX5_letterBehind_2 : List UInt8 := [180, 0, 240, 42, 180, 0, 246, 153, 0, 7, 3, 167, 0, 4, 4, 96, 181, 0, 240, 28, 16, 45]
abbrev dktX5_letterBehind_2 : List UInt8 := dkwX5_letterBehind_2 ++ dktX5_letterBehind_3
def dkwX5_letterBehind_1 : List UInt8 := [16, 100, 184, 0, 95, 154, 0, 13, 28, 16, 45, 159, 0, 7, 4, 167, 0, 4, 3, 181, 0, 246, 42, 89]
abbrev dktX5_letterBehind_1 : List UInt8 := dkwX5_letterBehind_1 ++ dktX5_letterBehind_2
def dkwX5_letterBehind_0 : List UInt8 := [42, 27, 182, 0, 253, 42, 180, 0, 246, 153, 0, 5, 3, 172, 42, 182, 0, 250, 61, 42, 28, 16, 97]
abbrev dktX5_letterBehind_0 : List UInt8 := dkwX5_letterBehind_0 ++ dktX5_letterBehind_1
theorem dksX5_letterBehind_0 : cX5_letterBehind.data.toList.drop 0 = dktX5_letterBehind_0 := by decide +kernel
theorem dksX5_letterBehind_1 : cX5_letterBehind.data.toList.drop 23 = dktX5_letterBehind_1 := dk_seg dksX5_letterBehind_0 23 rfl rfl
theorem dksX5_letterBehind_2 : cX5_letterBehind.data.toList.drop 47 = dktX5_letterBehind_2 := dk_seg dksX5_letterBehind_1 24 rfl rfl
theorem dksX5_letterBehind_3 : cX5_letterBehind.data.toList.drop 69 = dktX5_letterBehind_3 := dk_seg dksX5_letterBehind_2 22 rfl rfl
theorem dX5_letterBehind_0 : decode cX5_letterBehind 0 = .ok (.aload_n 0, 1) := dk_42 (dk_at dksX5_letterBehind_0 0 rfl rfl)
theorem dX5_letterBehind_1 : decode cX5_letterBehind 1 = .ok (.iload_n 1, 1) := dk_27 (dk_at dksX5_letterBehind_0 1 rfl rfl)
theorem dX5_letterBehind_2 : decode cX5_letterBehind 2 = .ok (.invokevirtual 253, 3) := dk_182 0 253 (dk_at dksX5_letterBehind_0 2 rfl rfl)
theorem dX5_letterBehind_5 : decode cX5_letterBehind 5 = .ok (.aload_n 0, 1) := dk_42 (dk_at dksX5_letterBehind_0 5 rfl rfl)
theorem dX5_letterBehind_6 : decode cX5_letterBehind 6 = .ok (.getfield 246, 3) := dk_180 0 246 (dk_at dksX5_letterBehind_0 6 rfl rfl)
theorem dX5_letterBehind_9 : decode cX5_letterBehind 9 = .ok (.ifCond .eq 5, 3) := dk_153 0 5 (dk_at dksX5_letterBehind_0 9 rfl rfl)
theorem dX5_letterBehind_12 : decode cX5_letterBehind 12 = .ok (.iconst 0, 1) := dk_3 (dk_at dksX5_letterBehind_0 12 rfl rfl)
theorem dX5_letterBehind_13 : decode cX5_letterBehind 13 = .ok (.ireturn, 1) := dk_172 (dk_at dksX5_letterBehind_0 13 rfl rfl)
theorem dX5_letterBehind_14 : decode cX5_letterBehind 14 = .ok (.aload_n 0, 1) := dk_42 (dk_at dksX5_letterBehind_0 14 rfl rfl)
theorem dX5_letterBehind_15 : decode cX5_letterBehind 15 = .ok (.invokevirtual 250, 3) := dk_182 0 250 (dk_at dksX5_letterBehind_0 15 rfl rfl)
theorem dX5_letterBehind_18 : decode cX5_letterBehind 18 = .ok (.istore_n 2, 1) := dk_61 (dk_at dksX5_letterBehind_0 18 rfl rfl)
theorem dX5_letterBehind_19 : decode cX5_letterBehind 19 = .ok (.aload_n 0, 1) := dk_42 (dk_at dksX5_letterBehind_0 19 rfl rfl)
theorem dX5_letterBehind_20 : decode cX5_letterBehind 20 = .ok (.iload_n 2, 1) := dk_28 (dk_at dksX5_letterBehind_0 20 rfl rfl)
theorem dX5_letterBehind_21 : decode cX5_letterBehind 21 = .ok (.bipush 97, 2) := dk_16 97 (dk_at dksX5_letterBehind_0 21 rfl rfl)
theorem dX5_letterBehind_23 : decode cX5_letterBehind 23 = .ok (.bipush 100, 2) := dk_16 100 (dk_at dksX5_letterBehind_1 0 rfl rfl)
theorem dX5_letterBehind_25 : decode cX5_letterBehind 25 = .ok (.invokestatic 95, 3) := dk_184 0 95 (dk_at dksX5_letterBehind_1 2 rfl rfl)
theorem dX5_letterBehind_28 : decode cX5_letterBehind 28 = .ok (.ifCond .ne 13, 3) := dk_154 0 13 (dk_at dksX5_letterBehind_1 5 rfl rfl)
theorem dX5_letterBehind_31 : decode cX5_letterBehind 31 = .ok (.iload_n 2, 1) := dk_28 (dk_at dksX5_letterBehind_1 8 rfl rfl)
theorem dX5_letterBehind_32 : decode cX5_letterBehind 32 = .ok (.bipush 45, 2) := dk_16 45 (dk_at dksX5_letterBehind_1 9 rfl rfl)
theorem dX5_letterBehind_34 : decode cX5_letterBehind 34 = .ok (.if_icmp .eq 7, 3) := dk_159 0 7 (dk_at dksX5_letterBehind_1 11 rfl rfl)
theorem dX5_letterBehind_37 : decode cX5_letterBehind 37 = .ok (.iconst 1, 1) := dk_4 (dk_at dksX5_letterBehind_1 14 rfl rfl)
theorem dX5_letterBehind_38 : decode cX5_letterBehind 38 = .ok (.goto 4, 3) := dk_167 0 4 (dk_at dksX5_letterBehind_1 15 rfl rfl)
theorem dX5_letterBehind_41 : decode cX5_letterBehind 41 = .ok (.iconst 0, 1) := dk_3 (dk_at dksX5_letterBehind_1 18 rfl rfl)
theorem dX5_letterBehind_42 : decode cX5_letterBehind 42 = .ok (.putfield 246, 3) := dk_181 0 246 (dk_at dksX5_letterBehind_1 19 rfl rfl)
theorem dX5_letterBehind_45 : decode cX5_letterBehind 45 = .ok (.aload_n 0, 1) := dk_42 (dk_at dksX5_letterBehind_1 22 rfl rfl)
theorem dX5_letterBehind_46 : decode cX5_letterBehind 46 = .ok (.dup, 1) := dk_89 (dk_at dksX5_letterBehind_1 23 rfl rfl)
theorem dX5_letterBehind_47 : decode cX5_letterBehind 47 = .ok (.getfield 240, 3) := dk_180 0 240 (dk_at dksX5_letterBehind_2 0 rfl rfl)
theorem dX5_letterBehind_50 : decode cX5_letterBehind 50 = .ok (.aload_n 0, 1) := dk_42 (dk_at dksX5_letterBehind_2 3 rfl rfl)
theorem dX5_letterBehind_51 : decode cX5_letterBehind 51 = .ok (.getfield 246, 3) := dk_180 0 246 (dk_at dksX5_letterBehind_2 4 rfl rfl)
theorem dX5_letterBehind_54 : decode cX5_letterBehind 54 = .ok (.ifCond .eq 7, 3) := dk_153 0 7 (dk_at dksX5_letterBehind_2 7 rfl rfl)
theorem dX5_letterBehind_57 : decode cX5_letterBehind 57 = .ok (.iconst 0, 1) := dk_3 (dk_at dksX5_letterBehind_2 10 rfl rfl)
theorem dX5_letterBehind_58 : decode cX5_letterBehind 58 = .ok (.goto 4, 3) := dk_167 0 4 (dk_at dksX5_letterBehind_2 11 rfl rfl)
theorem dX5_letterBehind_61 : decode cX5_letterBehind 61 = .ok (.iconst 1, 1) := dk_4 (dk_at dksX5_letterBehind_2 14 rfl rfl)
theorem dX5_letterBehind_62 : decode cX5_letterBehind 62 = .ok (.iadd, 1) := dk_96 (dk_at dksX5_letterBehind_2 15 rfl rfl)
theorem dX5_letterBehind_63 : decode cX5_letterBehind 63 = .ok (.putfield 240, 3) := dk_181 0 240 (dk_at dksX5_letterBehind_2 16 rfl rfl)
theorem dX5_letterBehind_66 : decode cX5_letterBehind 66 = .ok (.iload_n 2, 1) := dk_28 (dk_at dksX5_letterBehind_2 19 rfl rfl)
theorem dX5_letterBehind_67 : decode cX5_letterBehind 67 = .ok (.bipush 45, 2) := dk_16 45 (dk_at dksX5_letterBehind_2 20 rfl rfl)
theorem dX5_letterBehind_69 : decode cX5_letterBehind 69 = .ok (.if_icmp .ne 7, 3) := dk_160 0 7 (dk_at dksX5_letterBehind_3 0 rfl rfl)
theorem dX5_letterBehind_72 : decode cX5_letterBehind 72 = .ok (.iconst 4, 1) := dk_7 (dk_at dksX5_letterBehind_3 3 rfl rfl)
theorem dX5_letterBehind_73 : decode cX5_letterBehind 73 = .ok (.goto 7, 3) := dk_167 0 7 (dk_at dksX5_letterBehind_3 4 rfl rfl)
theorem dX5_letterBehind_76 : decode cX5_letterBehind 76 = .ok (.iload_n 2, 1) := dk_28 (dk_at dksX5_letterBehind_3 7 rfl rfl)
theorem dX5_letterBehind_77 : decode cX5_letterBehind 77 = .ok (.bipush 97, 2) := dk_16 97 (dk_at dksX5_letterBehind_3 8 rfl rfl)
theorem dX5_letterBehind_79 : decode cX5_letterBehind 79 = .ok (.isub, 1) := dk_100 (dk_at dksX5_letterBehind_3 10 rfl rfl)
theorem dX5_letterBehind_80 : decode cX5_letterBehind 80 = .ok (.ireturn, 1) := dk_172 (dk_at dksX5_letterBehind_3 11 rfl rfl)
abbrev cX5_does : ByteArray := prog_19_method_65_code
def yX5_does : MethodName := ⟨RX5, "does", "(I)I"⟩
def dkwX5_does_7 : List UInt8 := [180, 0, 68, 3, 46, 182, 0, 150, 172]
abbrev dktX5_does_7 : List UInt8 := dkwX5_does_7 ++ []
def dkwX5_does_6 : List UInt8 := [182, 0, 144, 172, 42, 42, 180, 0, 68, 3, 46, 42, 180, 0, 68, 4, 46, 182, 0, 147, 172, 42, 42]
abbrev dktX5_does_6 : List UInt8 := dkwX5_does_6 ++ dktX5_does_7
def dkwX5_does_5 : List UInt8 := [182, 0, 137, 172, 42, 42, 180, 0, 68, 3, 46, 42, 180, 0, 68, 4, 46, 42, 180, 0, 68, 5, 46]
abbrev dktX5_does_5 : List UInt8 := dkwX5_does_5 ++ dktX5_does_6
def dkwX5_does_4 : List UInt8 := [180, 0, 68, 5, 46, 42, 180, 0, 68, 6, 46, 42, 180, 0, 68, 7, 46, 42, 180, 0, 68, 8, 46]
abbrev dktX5_does_4 : List UInt8 := dkwX5_does_4 ++ dktX5_does_5
def dkwX5_does_3 : List UInt8 := [42, 180, 0, 68, 5, 46, 182, 0, 126, 172, 42, 42, 180, 0, 68, 3, 46, 42, 180, 0, 68, 4, 46, 42]
abbrev dktX5_does_3 : List UInt8 := dkwX5_does_3 ++ dktX5_does_4
def dkwX5_does_2 : List UInt8 := [42, 42, 180, 0, 68, 3, 46, 182, 0, 113, 172, 42, 42, 180, 0, 68, 3, 46, 42, 180, 0, 68, 4, 46]
abbrev dktX5_does_2 : List UInt8 := dkwX5_does_2 ++ dktX5_does_3
def dkwX5_does_1 : List UInt8 := [171, 0, 0, 0, 0, 0, 166, 0, 0, 0, 5, 0, 0, 0, 97, 0, 0, 0, 85, 0, 0, 0, 100, 0, 0, 0, 149, 0, 0, 0, 102, 0, 0, 0, 62, 0, 0, 0, 115, 0, 0, 0, 51, 0, 0, 0, 119, 0, 0, 0, 126]
abbrev dktX5_does_1 : List UInt8 := dkwX5_does_1 ++ dktX5_does_2
def dkwX5_does_0 : List UInt8 := [27]
abbrev dktX5_does_0 : List UInt8 := dkwX5_does_0 ++ dktX5_does_1
theorem dksX5_does_0 : cX5_does.data.toList.drop 0 = dktX5_does_0 := by decide +kernel
theorem dksX5_does_1 : cX5_does.data.toList.drop 1 = dktX5_does_1 := dk_seg dksX5_does_0 1 rfl rfl
theorem dksX5_does_2 : cX5_does.data.toList.drop 52 = dktX5_does_2 := dk_seg dksX5_does_1 51 rfl rfl
theorem dksX5_does_3 : cX5_does.data.toList.drop 76 = dktX5_does_3 := dk_seg dksX5_does_2 24 rfl rfl
theorem dksX5_does_4 : cX5_does.data.toList.drop 100 = dktX5_does_4 := dk_seg dksX5_does_3 24 rfl rfl
theorem dksX5_does_5 : cX5_does.data.toList.drop 123 = dktX5_does_5 := dk_seg dksX5_does_4 23 rfl rfl
theorem dksX5_does_6 : cX5_does.data.toList.drop 146 = dktX5_does_6 := dk_seg dksX5_does_5 23 rfl rfl
theorem dksX5_does_7 : cX5_does.data.toList.drop 169 = dktX5_does_7 := dk_seg dksX5_does_6 23 rfl rfl
theorem dX5_does_0 : decode cX5_does 0 = .ok (.iload_n 1, 1) := dk_27 (dk_at dksX5_does_0 0 rfl rfl)
theorem dX5_does_1 : decode cX5_does 1 = .ok (.lookupswitch 166 #[(97, 85), (100, 149), (102, 62), (115, 51), (119, 126)], 51) := by decide +kernel
theorem dX5_does_52 : decode cX5_does 52 = .ok (.aload_n 0, 1) := dk_42 (dk_at dksX5_does_2 0 rfl rfl)
theorem dX5_does_53 : decode cX5_does 53 = .ok (.aload_n 0, 1) := dk_42 (dk_at dksX5_does_2 1 rfl rfl)
theorem dX5_does_54 : decode cX5_does 54 = .ok (.getfield 68, 3) := dk_180 0 68 (dk_at dksX5_does_2 2 rfl rfl)
theorem dX5_does_57 : decode cX5_does 57 = .ok (.iconst 0, 1) := dk_3 (dk_at dksX5_does_2 5 rfl rfl)
theorem dX5_does_58 : decode cX5_does 58 = .ok (.iaload, 1) := dk_46 (dk_at dksX5_does_2 6 rfl rfl)
theorem dX5_does_59 : decode cX5_does 59 = .ok (.invokevirtual 113, 3) := dk_182 0 113 (dk_at dksX5_does_2 7 rfl rfl)
theorem dX5_does_62 : decode cX5_does 62 = .ok (.ireturn, 1) := dk_172 (dk_at dksX5_does_2 10 rfl rfl)
theorem dX5_does_63 : decode cX5_does 63 = .ok (.aload_n 0, 1) := dk_42 (dk_at dksX5_does_2 11 rfl rfl)
theorem dX5_does_64 : decode cX5_does 64 = .ok (.aload_n 0, 1) := dk_42 (dk_at dksX5_does_2 12 rfl rfl)
theorem dX5_does_65 : decode cX5_does 65 = .ok (.getfield 68, 3) := dk_180 0 68 (dk_at dksX5_does_2 13 rfl rfl)
theorem dX5_does_68 : decode cX5_does 68 = .ok (.iconst 0, 1) := dk_3 (dk_at dksX5_does_2 16 rfl rfl)
theorem dX5_does_69 : decode cX5_does 69 = .ok (.iaload, 1) := dk_46 (dk_at dksX5_does_2 17 rfl rfl)
theorem dX5_does_70 : decode cX5_does 70 = .ok (.aload_n 0, 1) := dk_42 (dk_at dksX5_does_2 18 rfl rfl)
theorem dX5_does_71 : decode cX5_does 71 = .ok (.getfield 68, 3) := dk_180 0 68 (dk_at dksX5_does_2 19 rfl rfl)
theorem dX5_does_74 : decode cX5_does 74 = .ok (.iconst 1, 1) := dk_4 (dk_at dksX5_does_2 22 rfl rfl)
theorem dX5_does_75 : decode cX5_does 75 = .ok (.iaload, 1) := dk_46 (dk_at dksX5_does_2 23 rfl rfl)
theorem dX5_does_76 : decode cX5_does 76 = .ok (.aload_n 0, 1) := dk_42 (dk_at dksX5_does_3 0 rfl rfl)
theorem dX5_does_77 : decode cX5_does 77 = .ok (.getfield 68, 3) := dk_180 0 68 (dk_at dksX5_does_3 1 rfl rfl)
theorem dX5_does_80 : decode cX5_does 80 = .ok (.iconst 2, 1) := dk_5 (dk_at dksX5_does_3 4 rfl rfl)
theorem dX5_does_81 : decode cX5_does 81 = .ok (.iaload, 1) := dk_46 (dk_at dksX5_does_3 5 rfl rfl)
theorem dX5_does_82 : decode cX5_does 82 = .ok (.invokevirtual 126, 3) := dk_182 0 126 (dk_at dksX5_does_3 6 rfl rfl)
theorem dX5_does_85 : decode cX5_does 85 = .ok (.ireturn, 1) := dk_172 (dk_at dksX5_does_3 9 rfl rfl)
theorem dX5_does_86 : decode cX5_does 86 = .ok (.aload_n 0, 1) := dk_42 (dk_at dksX5_does_3 10 rfl rfl)
theorem dX5_does_87 : decode cX5_does 87 = .ok (.aload_n 0, 1) := dk_42 (dk_at dksX5_does_3 11 rfl rfl)
theorem dX5_does_88 : decode cX5_does 88 = .ok (.getfield 68, 3) := dk_180 0 68 (dk_at dksX5_does_3 12 rfl rfl)
theorem dX5_does_91 : decode cX5_does 91 = .ok (.iconst 0, 1) := dk_3 (dk_at dksX5_does_3 15 rfl rfl)
theorem dX5_does_92 : decode cX5_does 92 = .ok (.iaload, 1) := dk_46 (dk_at dksX5_does_3 16 rfl rfl)
theorem dX5_does_93 : decode cX5_does 93 = .ok (.aload_n 0, 1) := dk_42 (dk_at dksX5_does_3 17 rfl rfl)
theorem dX5_does_94 : decode cX5_does 94 = .ok (.getfield 68, 3) := dk_180 0 68 (dk_at dksX5_does_3 18 rfl rfl)
theorem dX5_does_97 : decode cX5_does 97 = .ok (.iconst 1, 1) := dk_4 (dk_at dksX5_does_3 21 rfl rfl)
theorem dX5_does_98 : decode cX5_does 98 = .ok (.iaload, 1) := dk_46 (dk_at dksX5_does_3 22 rfl rfl)
theorem dX5_does_99 : decode cX5_does 99 = .ok (.aload_n 0, 1) := dk_42 (dk_at dksX5_does_3 23 rfl rfl)
theorem dX5_does_100 : decode cX5_does 100 = .ok (.getfield 68, 3) := dk_180 0 68 (dk_at dksX5_does_4 0 rfl rfl)
theorem dX5_does_103 : decode cX5_does 103 = .ok (.iconst 2, 1) := dk_5 (dk_at dksX5_does_4 3 rfl rfl)
theorem dX5_does_104 : decode cX5_does 104 = .ok (.iaload, 1) := dk_46 (dk_at dksX5_does_4 4 rfl rfl)
theorem dX5_does_105 : decode cX5_does 105 = .ok (.aload_n 0, 1) := dk_42 (dk_at dksX5_does_4 5 rfl rfl)
theorem dX5_does_106 : decode cX5_does 106 = .ok (.getfield 68, 3) := dk_180 0 68 (dk_at dksX5_does_4 6 rfl rfl)
theorem dX5_does_109 : decode cX5_does 109 = .ok (.iconst 3, 1) := dk_6 (dk_at dksX5_does_4 9 rfl rfl)
theorem dX5_does_110 : decode cX5_does 110 = .ok (.iaload, 1) := dk_46 (dk_at dksX5_does_4 10 rfl rfl)
theorem dX5_does_111 : decode cX5_does 111 = .ok (.aload_n 0, 1) := dk_42 (dk_at dksX5_does_4 11 rfl rfl)
theorem dX5_does_112 : decode cX5_does 112 = .ok (.getfield 68, 3) := dk_180 0 68 (dk_at dksX5_does_4 12 rfl rfl)
theorem dX5_does_115 : decode cX5_does 115 = .ok (.iconst 4, 1) := dk_7 (dk_at dksX5_does_4 15 rfl rfl)
theorem dX5_does_116 : decode cX5_does 116 = .ok (.iaload, 1) := dk_46 (dk_at dksX5_does_4 16 rfl rfl)
theorem dX5_does_117 : decode cX5_does 117 = .ok (.aload_n 0, 1) := dk_42 (dk_at dksX5_does_4 17 rfl rfl)
theorem dX5_does_118 : decode cX5_does 118 = .ok (.getfield 68, 3) := dk_180 0 68 (dk_at dksX5_does_4 18 rfl rfl)
theorem dX5_does_121 : decode cX5_does 121 = .ok (.iconst 5, 1) := dk_8 (dk_at dksX5_does_4 21 rfl rfl)
theorem dX5_does_122 : decode cX5_does 122 = .ok (.iaload, 1) := dk_46 (dk_at dksX5_does_4 22 rfl rfl)
theorem dX5_does_123 : decode cX5_does 123 = .ok (.invokevirtual 137, 3) := dk_182 0 137 (dk_at dksX5_does_5 0 rfl rfl)
theorem dX5_does_126 : decode cX5_does 126 = .ok (.ireturn, 1) := dk_172 (dk_at dksX5_does_5 3 rfl rfl)
theorem dX5_does_127 : decode cX5_does 127 = .ok (.aload_n 0, 1) := dk_42 (dk_at dksX5_does_5 4 rfl rfl)
theorem dX5_does_128 : decode cX5_does 128 = .ok (.aload_n 0, 1) := dk_42 (dk_at dksX5_does_5 5 rfl rfl)
theorem dX5_does_129 : decode cX5_does 129 = .ok (.getfield 68, 3) := dk_180 0 68 (dk_at dksX5_does_5 6 rfl rfl)
theorem dX5_does_132 : decode cX5_does 132 = .ok (.iconst 0, 1) := dk_3 (dk_at dksX5_does_5 9 rfl rfl)
theorem dX5_does_133 : decode cX5_does 133 = .ok (.iaload, 1) := dk_46 (dk_at dksX5_does_5 10 rfl rfl)
theorem dX5_does_134 : decode cX5_does 134 = .ok (.aload_n 0, 1) := dk_42 (dk_at dksX5_does_5 11 rfl rfl)
theorem dX5_does_135 : decode cX5_does 135 = .ok (.getfield 68, 3) := dk_180 0 68 (dk_at dksX5_does_5 12 rfl rfl)
theorem dX5_does_138 : decode cX5_does 138 = .ok (.iconst 1, 1) := dk_4 (dk_at dksX5_does_5 15 rfl rfl)
theorem dX5_does_139 : decode cX5_does 139 = .ok (.iaload, 1) := dk_46 (dk_at dksX5_does_5 16 rfl rfl)
theorem dX5_does_140 : decode cX5_does 140 = .ok (.aload_n 0, 1) := dk_42 (dk_at dksX5_does_5 17 rfl rfl)
theorem dX5_does_141 : decode cX5_does 141 = .ok (.getfield 68, 3) := dk_180 0 68 (dk_at dksX5_does_5 18 rfl rfl)
theorem dX5_does_144 : decode cX5_does 144 = .ok (.iconst 2, 1) := dk_5 (dk_at dksX5_does_5 21 rfl rfl)
theorem dX5_does_145 : decode cX5_does 145 = .ok (.iaload, 1) := dk_46 (dk_at dksX5_does_5 22 rfl rfl)
theorem dX5_does_146 : decode cX5_does 146 = .ok (.invokevirtual 144, 3) := dk_182 0 144 (dk_at dksX5_does_6 0 rfl rfl)
theorem dX5_does_149 : decode cX5_does 149 = .ok (.ireturn, 1) := dk_172 (dk_at dksX5_does_6 3 rfl rfl)
theorem dX5_does_150 : decode cX5_does 150 = .ok (.aload_n 0, 1) := dk_42 (dk_at dksX5_does_6 4 rfl rfl)
theorem dX5_does_151 : decode cX5_does 151 = .ok (.aload_n 0, 1) := dk_42 (dk_at dksX5_does_6 5 rfl rfl)
theorem dX5_does_152 : decode cX5_does 152 = .ok (.getfield 68, 3) := dk_180 0 68 (dk_at dksX5_does_6 6 rfl rfl)
theorem dX5_does_155 : decode cX5_does 155 = .ok (.iconst 0, 1) := dk_3 (dk_at dksX5_does_6 9 rfl rfl)
theorem dX5_does_156 : decode cX5_does 156 = .ok (.iaload, 1) := dk_46 (dk_at dksX5_does_6 10 rfl rfl)
theorem dX5_does_157 : decode cX5_does 157 = .ok (.aload_n 0, 1) := dk_42 (dk_at dksX5_does_6 11 rfl rfl)
theorem dX5_does_158 : decode cX5_does 158 = .ok (.getfield 68, 3) := dk_180 0 68 (dk_at dksX5_does_6 12 rfl rfl)
theorem dX5_does_161 : decode cX5_does 161 = .ok (.iconst 1, 1) := dk_4 (dk_at dksX5_does_6 15 rfl rfl)
theorem dX5_does_162 : decode cX5_does 162 = .ok (.iaload, 1) := dk_46 (dk_at dksX5_does_6 16 rfl rfl)
theorem dX5_does_163 : decode cX5_does 163 = .ok (.invokevirtual 147, 3) := dk_182 0 147 (dk_at dksX5_does_6 17 rfl rfl)
theorem dX5_does_166 : decode cX5_does 166 = .ok (.ireturn, 1) := dk_172 (dk_at dksX5_does_6 20 rfl rfl)
theorem dX5_does_167 : decode cX5_does 167 = .ok (.aload_n 0, 1) := dk_42 (dk_at dksX5_does_6 21 rfl rfl)
theorem dX5_does_168 : decode cX5_does 168 = .ok (.aload_n 0, 1) := dk_42 (dk_at dksX5_does_6 22 rfl rfl)
theorem dX5_does_169 : decode cX5_does 169 = .ok (.getfield 68, 3) := dk_180 0 68 (dk_at dksX5_does_7 0 rfl rfl)
theorem dX5_does_172 : decode cX5_does 172 = .ok (.iconst 0, 1) := dk_3 (dk_at dksX5_does_7 3 rfl rfl)
theorem dX5_does_173 : decode cX5_does 173 = .ok (.iaload, 1) := dk_46 (dk_at dksX5_does_7 4 rfl rfl)
theorem dX5_does_174 : decode cX5_does 174 = .ok (.invokevirtual 150, 3) := dk_182 0 150 (dk_at dksX5_does_7 5 rfl rfl)
theorem dX5_does_177 : decode cX5_does 177 = .ok (.ireturn, 1) := dk_172 (dk_at dksX5_does_7 8 rfl rfl)
abbrev cX5_tell : ByteArray := prog_19_method_72_code
def yX5_tell : MethodName := ⟨RX5, "tell", "(II)I"⟩
def dkwX5_tell_5 : List UInt8 := [27, 28, 7, 184, 0, 130, 46, 96, 182, 0, 210, 42, 180, 0, 207, 172]
abbrev dktX5_tell_5 : List UInt8 := dkwX5_tell_5 ++ []
def dkwX5_tell_4 : List UInt8 := [6, 184, 0, 130, 46, 184, 1, 30, 182, 0, 210, 42, 16, 61, 182, 0, 210, 42, 16, 48, 42, 180, 0, 7]
abbrev dktX5_tell_4 : List UInt8 := dkwX5_tell_4 ++ dktX5_tell_5
def dkwX5_tell_3 : List UInt8 := [5, 184, 0, 130, 46, 184, 1, 30, 182, 0, 210, 42, 16, 47, 182, 0, 210, 42, 42, 180, 0, 7, 27, 28]
abbrev dktX5_tell_3 : List UInt8 := dkwX5_tell_3 ++ dktX5_tell_4
def dkwX5_tell_2 : List UInt8 := [27, 28, 4, 184, 0, 130, 46, 96, 182, 0, 210, 42, 16, 32, 182, 0, 210, 42, 42, 180, 0, 7, 27, 28]
abbrev dktX5_tell_2 : List UInt8 := dkwX5_tell_2 ++ dktX5_tell_3
def dkwX5_tell_1 : List UInt8 := [27, 28, 3, 184, 0, 130, 46, 96, 182, 0, 210, 42, 16, 62, 182, 0, 210, 42, 16, 48, 42, 180, 0, 7]
abbrev dktX5_tell_1 : List UInt8 := dkwX5_tell_1 ++ dktX5_tell_2
def dkwX5_tell_0 : List UInt8 := [42, 27, 28, 182, 0, 141, 154, 0, 6, 16, 245, 172, 42, 3, 181, 0, 207, 42, 16, 48, 42, 180, 0, 7]
abbrev dktX5_tell_0 : List UInt8 := dkwX5_tell_0 ++ dktX5_tell_1
theorem dksX5_tell_0 : cX5_tell.data.toList.drop 0 = dktX5_tell_0 := by decide +kernel
theorem dksX5_tell_1 : cX5_tell.data.toList.drop 24 = dktX5_tell_1 := dk_seg dksX5_tell_0 24 rfl rfl
theorem dksX5_tell_2 : cX5_tell.data.toList.drop 48 = dktX5_tell_2 := dk_seg dksX5_tell_1 24 rfl rfl
theorem dksX5_tell_3 : cX5_tell.data.toList.drop 72 = dktX5_tell_3 := dk_seg dksX5_tell_2 24 rfl rfl
theorem dksX5_tell_4 : cX5_tell.data.toList.drop 96 = dktX5_tell_4 := dk_seg dksX5_tell_3 24 rfl rfl
theorem dksX5_tell_5 : cX5_tell.data.toList.drop 120 = dktX5_tell_5 := dk_seg dksX5_tell_4 24 rfl rfl
theorem dX5_tell_0 : decode cX5_tell 0 = .ok (.aload_n 0, 1) := dk_42 (dk_at dksX5_tell_0 0 rfl rfl)
theorem dX5_tell_1 : decode cX5_tell 1 = .ok (.iload_n 1, 1) := dk_27 (dk_at dksX5_tell_0 1 rfl rfl)
theorem dX5_tell_2 : decode cX5_tell 2 = .ok (.iload_n 2, 1) := dk_28 (dk_at dksX5_tell_0 2 rfl rfl)
theorem dX5_tell_3 : decode cX5_tell 3 = .ok (.invokevirtual 141, 3) := dk_182 0 141 (dk_at dksX5_tell_0 3 rfl rfl)
theorem dX5_tell_6 : decode cX5_tell 6 = .ok (.ifCond .ne 6, 3) := dk_154 0 6 (dk_at dksX5_tell_0 6 rfl rfl)
theorem dX5_tell_9 : decode cX5_tell 9 = .ok (.bipush (-11), 2) := dk_16 245 (dk_at dksX5_tell_0 9 rfl rfl)
theorem dX5_tell_11 : decode cX5_tell 11 = .ok (.ireturn, 1) := dk_172 (dk_at dksX5_tell_0 11 rfl rfl)
theorem dX5_tell_12 : decode cX5_tell 12 = .ok (.aload_n 0, 1) := dk_42 (dk_at dksX5_tell_0 12 rfl rfl)
theorem dX5_tell_13 : decode cX5_tell 13 = .ok (.iconst 0, 1) := dk_3 (dk_at dksX5_tell_0 13 rfl rfl)
theorem dX5_tell_14 : decode cX5_tell 14 = .ok (.putfield 207, 3) := dk_181 0 207 (dk_at dksX5_tell_0 14 rfl rfl)
theorem dX5_tell_17 : decode cX5_tell 17 = .ok (.aload_n 0, 1) := dk_42 (dk_at dksX5_tell_0 17 rfl rfl)
theorem dX5_tell_18 : decode cX5_tell 18 = .ok (.bipush 48, 2) := dk_16 48 (dk_at dksX5_tell_0 18 rfl rfl)
theorem dX5_tell_20 : decode cX5_tell 20 = .ok (.aload_n 0, 1) := dk_42 (dk_at dksX5_tell_0 20 rfl rfl)
theorem dX5_tell_21 : decode cX5_tell 21 = .ok (.getfield 7, 3) := dk_180 0 7 (dk_at dksX5_tell_0 21 rfl rfl)
theorem dX5_tell_24 : decode cX5_tell 24 = .ok (.iload_n 1, 1) := dk_27 (dk_at dksX5_tell_1 0 rfl rfl)
theorem dX5_tell_25 : decode cX5_tell 25 = .ok (.iload_n 2, 1) := dk_28 (dk_at dksX5_tell_1 1 rfl rfl)
theorem dX5_tell_26 : decode cX5_tell 26 = .ok (.iconst 0, 1) := dk_3 (dk_at dksX5_tell_1 2 rfl rfl)
theorem dX5_tell_27 : decode cX5_tell 27 = .ok (.invokestatic 130, 3) := dk_184 0 130 (dk_at dksX5_tell_1 3 rfl rfl)
theorem dX5_tell_30 : decode cX5_tell 30 = .ok (.iaload, 1) := dk_46 (dk_at dksX5_tell_1 6 rfl rfl)
theorem dX5_tell_31 : decode cX5_tell 31 = .ok (.iadd, 1) := dk_96 (dk_at dksX5_tell_1 7 rfl rfl)
theorem dX5_tell_32 : decode cX5_tell 32 = .ok (.invokevirtual 210, 3) := dk_182 0 210 (dk_at dksX5_tell_1 8 rfl rfl)
theorem dX5_tell_35 : decode cX5_tell 35 = .ok (.aload_n 0, 1) := dk_42 (dk_at dksX5_tell_1 11 rfl rfl)
theorem dX5_tell_36 : decode cX5_tell 36 = .ok (.bipush 62, 2) := dk_16 62 (dk_at dksX5_tell_1 12 rfl rfl)
theorem dX5_tell_38 : decode cX5_tell 38 = .ok (.invokevirtual 210, 3) := dk_182 0 210 (dk_at dksX5_tell_1 14 rfl rfl)
theorem dX5_tell_41 : decode cX5_tell 41 = .ok (.aload_n 0, 1) := dk_42 (dk_at dksX5_tell_1 17 rfl rfl)
theorem dX5_tell_42 : decode cX5_tell 42 = .ok (.bipush 48, 2) := dk_16 48 (dk_at dksX5_tell_1 18 rfl rfl)
theorem dX5_tell_44 : decode cX5_tell 44 = .ok (.aload_n 0, 1) := dk_42 (dk_at dksX5_tell_1 20 rfl rfl)
theorem dX5_tell_45 : decode cX5_tell 45 = .ok (.getfield 7, 3) := dk_180 0 7 (dk_at dksX5_tell_1 21 rfl rfl)
theorem dX5_tell_48 : decode cX5_tell 48 = .ok (.iload_n 1, 1) := dk_27 (dk_at dksX5_tell_2 0 rfl rfl)
theorem dX5_tell_49 : decode cX5_tell 49 = .ok (.iload_n 2, 1) := dk_28 (dk_at dksX5_tell_2 1 rfl rfl)
theorem dX5_tell_50 : decode cX5_tell 50 = .ok (.iconst 1, 1) := dk_4 (dk_at dksX5_tell_2 2 rfl rfl)
theorem dX5_tell_51 : decode cX5_tell 51 = .ok (.invokestatic 130, 3) := dk_184 0 130 (dk_at dksX5_tell_2 3 rfl rfl)
theorem dX5_tell_54 : decode cX5_tell 54 = .ok (.iaload, 1) := dk_46 (dk_at dksX5_tell_2 6 rfl rfl)
theorem dX5_tell_55 : decode cX5_tell 55 = .ok (.iadd, 1) := dk_96 (dk_at dksX5_tell_2 7 rfl rfl)
theorem dX5_tell_56 : decode cX5_tell 56 = .ok (.invokevirtual 210, 3) := dk_182 0 210 (dk_at dksX5_tell_2 8 rfl rfl)
theorem dX5_tell_59 : decode cX5_tell 59 = .ok (.aload_n 0, 1) := dk_42 (dk_at dksX5_tell_2 11 rfl rfl)
theorem dX5_tell_60 : decode cX5_tell 60 = .ok (.bipush 32, 2) := dk_16 32 (dk_at dksX5_tell_2 12 rfl rfl)
theorem dX5_tell_62 : decode cX5_tell 62 = .ok (.invokevirtual 210, 3) := dk_182 0 210 (dk_at dksX5_tell_2 14 rfl rfl)
theorem dX5_tell_65 : decode cX5_tell 65 = .ok (.aload_n 0, 1) := dk_42 (dk_at dksX5_tell_2 17 rfl rfl)
theorem dX5_tell_66 : decode cX5_tell 66 = .ok (.aload_n 0, 1) := dk_42 (dk_at dksX5_tell_2 18 rfl rfl)
theorem dX5_tell_67 : decode cX5_tell 67 = .ok (.getfield 7, 3) := dk_180 0 7 (dk_at dksX5_tell_2 19 rfl rfl)
theorem dX5_tell_70 : decode cX5_tell 70 = .ok (.iload_n 1, 1) := dk_27 (dk_at dksX5_tell_2 22 rfl rfl)
theorem dX5_tell_71 : decode cX5_tell 71 = .ok (.iload_n 2, 1) := dk_28 (dk_at dksX5_tell_2 23 rfl rfl)
theorem dX5_tell_72 : decode cX5_tell 72 = .ok (.iconst 2, 1) := dk_5 (dk_at dksX5_tell_3 0 rfl rfl)
theorem dX5_tell_73 : decode cX5_tell 73 = .ok (.invokestatic 130, 3) := dk_184 0 130 (dk_at dksX5_tell_3 1 rfl rfl)
theorem dX5_tell_76 : decode cX5_tell 76 = .ok (.iaload, 1) := dk_46 (dk_at dksX5_tell_3 4 rfl rfl)
theorem dX5_tell_77 : decode cX5_tell 77 = .ok (.invokestatic 286, 3) := dk_184 1 30 (dk_at dksX5_tell_3 5 rfl rfl)
theorem dX5_tell_80 : decode cX5_tell 80 = .ok (.invokevirtual 210, 3) := dk_182 0 210 (dk_at dksX5_tell_3 8 rfl rfl)
theorem dX5_tell_83 : decode cX5_tell 83 = .ok (.aload_n 0, 1) := dk_42 (dk_at dksX5_tell_3 11 rfl rfl)
theorem dX5_tell_84 : decode cX5_tell 84 = .ok (.bipush 47, 2) := dk_16 47 (dk_at dksX5_tell_3 12 rfl rfl)
theorem dX5_tell_86 : decode cX5_tell 86 = .ok (.invokevirtual 210, 3) := dk_182 0 210 (dk_at dksX5_tell_3 14 rfl rfl)
theorem dX5_tell_89 : decode cX5_tell 89 = .ok (.aload_n 0, 1) := dk_42 (dk_at dksX5_tell_3 17 rfl rfl)
theorem dX5_tell_90 : decode cX5_tell 90 = .ok (.aload_n 0, 1) := dk_42 (dk_at dksX5_tell_3 18 rfl rfl)
theorem dX5_tell_91 : decode cX5_tell 91 = .ok (.getfield 7, 3) := dk_180 0 7 (dk_at dksX5_tell_3 19 rfl rfl)
theorem dX5_tell_94 : decode cX5_tell 94 = .ok (.iload_n 1, 1) := dk_27 (dk_at dksX5_tell_3 22 rfl rfl)
theorem dX5_tell_95 : decode cX5_tell 95 = .ok (.iload_n 2, 1) := dk_28 (dk_at dksX5_tell_3 23 rfl rfl)
theorem dX5_tell_96 : decode cX5_tell 96 = .ok (.iconst 3, 1) := dk_6 (dk_at dksX5_tell_4 0 rfl rfl)
theorem dX5_tell_97 : decode cX5_tell 97 = .ok (.invokestatic 130, 3) := dk_184 0 130 (dk_at dksX5_tell_4 1 rfl rfl)
theorem dX5_tell_100 : decode cX5_tell 100 = .ok (.iaload, 1) := dk_46 (dk_at dksX5_tell_4 4 rfl rfl)
theorem dX5_tell_101 : decode cX5_tell 101 = .ok (.invokestatic 286, 3) := dk_184 1 30 (dk_at dksX5_tell_4 5 rfl rfl)
theorem dX5_tell_104 : decode cX5_tell 104 = .ok (.invokevirtual 210, 3) := dk_182 0 210 (dk_at dksX5_tell_4 8 rfl rfl)
theorem dX5_tell_107 : decode cX5_tell 107 = .ok (.aload_n 0, 1) := dk_42 (dk_at dksX5_tell_4 11 rfl rfl)
theorem dX5_tell_108 : decode cX5_tell 108 = .ok (.bipush 61, 2) := dk_16 61 (dk_at dksX5_tell_4 12 rfl rfl)
theorem dX5_tell_110 : decode cX5_tell 110 = .ok (.invokevirtual 210, 3) := dk_182 0 210 (dk_at dksX5_tell_4 14 rfl rfl)
theorem dX5_tell_113 : decode cX5_tell 113 = .ok (.aload_n 0, 1) := dk_42 (dk_at dksX5_tell_4 17 rfl rfl)
theorem dX5_tell_114 : decode cX5_tell 114 = .ok (.bipush 48, 2) := dk_16 48 (dk_at dksX5_tell_4 18 rfl rfl)
theorem dX5_tell_116 : decode cX5_tell 116 = .ok (.aload_n 0, 1) := dk_42 (dk_at dksX5_tell_4 20 rfl rfl)
theorem dX5_tell_117 : decode cX5_tell 117 = .ok (.getfield 7, 3) := dk_180 0 7 (dk_at dksX5_tell_4 21 rfl rfl)
theorem dX5_tell_120 : decode cX5_tell 120 = .ok (.iload_n 1, 1) := dk_27 (dk_at dksX5_tell_5 0 rfl rfl)
theorem dX5_tell_121 : decode cX5_tell 121 = .ok (.iload_n 2, 1) := dk_28 (dk_at dksX5_tell_5 1 rfl rfl)
theorem dX5_tell_122 : decode cX5_tell 122 = .ok (.iconst 4, 1) := dk_7 (dk_at dksX5_tell_5 2 rfl rfl)
theorem dX5_tell_123 : decode cX5_tell 123 = .ok (.invokestatic 130, 3) := dk_184 0 130 (dk_at dksX5_tell_5 3 rfl rfl)
theorem dX5_tell_126 : decode cX5_tell 126 = .ok (.iaload, 1) := dk_46 (dk_at dksX5_tell_5 6 rfl rfl)
theorem dX5_tell_127 : decode cX5_tell 127 = .ok (.iadd, 1) := dk_96 (dk_at dksX5_tell_5 7 rfl rfl)
theorem dX5_tell_128 : decode cX5_tell 128 = .ok (.invokevirtual 210, 3) := dk_182 0 210 (dk_at dksX5_tell_5 8 rfl rfl)
theorem dX5_tell_131 : decode cX5_tell 131 = .ok (.aload_n 0, 1) := dk_42 (dk_at dksX5_tell_5 11 rfl rfl)
theorem dX5_tell_132 : decode cX5_tell 132 = .ok (.getfield 207, 3) := dk_180 0 207 (dk_at dksX5_tell_5 12 rfl rfl)
theorem dX5_tell_135 : decode cX5_tell 135 = .ok (.ireturn, 1) := dk_172 (dk_at dksX5_tell_5 15 rfl rfl)
abbrev cX5_letter : ByteArray := prog_19_method_71_code
def yX5_letter : MethodName := ⟨RX5, "letter", "(I)I"⟩
def dkwX5_letter_0 : List UInt8 := [26, 7, 160, 0, 8, 16, 45, 167, 0, 7, 16, 97, 26, 96, 172]
abbrev dktX5_letter_0 : List UInt8 := dkwX5_letter_0 ++ []
theorem dksX5_letter_0 : cX5_letter.data.toList.drop 0 = dktX5_letter_0 := by decide +kernel
theorem dX5_letter_0 : decode cX5_letter 0 = .ok (.iload_n 0, 1) := dk_26 (dk_at dksX5_letter_0 0 rfl rfl)
theorem dX5_letter_1 : decode cX5_letter 1 = .ok (.iconst 4, 1) := dk_7 (dk_at dksX5_letter_0 1 rfl rfl)
theorem dX5_letter_2 : decode cX5_letter 2 = .ok (.if_icmp .ne 8, 3) := dk_160 0 8 (dk_at dksX5_letter_0 2 rfl rfl)
theorem dX5_letter_5 : decode cX5_letter 5 = .ok (.bipush 45, 2) := dk_16 45 (dk_at dksX5_letter_0 5 rfl rfl)
theorem dX5_letter_7 : decode cX5_letter 7 = .ok (.goto 7, 3) := dk_167 0 7 (dk_at dksX5_letter_0 7 rfl rfl)
theorem dX5_letter_10 : decode cX5_letter 10 = .ok (.bipush 97, 2) := dk_16 97 (dk_at dksX5_letter_0 10 rfl rfl)
theorem dX5_letter_12 : decode cX5_letter 12 = .ok (.iload_n 0, 1) := dk_26 (dk_at dksX5_letter_0 12 rfl rfl)
theorem dX5_letter_13 : decode cX5_letter 13 = .ok (.iadd, 1) := dk_96 (dk_at dksX5_letter_0 13 rfl rfl)
theorem dX5_letter_14 : decode cX5_letter 14 = .ok (.ireturn, 1) := dk_172 (dk_at dksX5_letter_0 14 rfl rfl)
abbrev cX5_tellStates : ByteArray := prog_19_method_73_code
def yX5_tellStates : MethodName := ⟨RX5, "tellStates", "(I)I"⟩
def dkwX5_tellStates_4 : List UInt8 := [182, 0, 210, 132, 2, 1, 167, 255, 180, 42, 180, 0, 207, 172]
abbrev dktX5_tellStates_4 : List UInt8 := dkwX5_tellStates_4 ++ []
def dkwX5_tellStates_3 : List UInt8 := [28, 46, 156, 0, 6, 167, 0, 22, 42, 16, 61, 182, 0, 210, 42, 16, 48, 42, 180, 0, 37, 28, 46, 96]
abbrev dktX5_tellStates_3 : List UInt8 := dkwX5_tellStates_3 ++ dktX5_tellStates_4
def dkwX5_tellStates_2 : List UInt8 := [96, 182, 0, 210, 42, 180, 0, 43, 28, 46, 4, 160, 0, 9, 42, 16, 33, 182, 0, 210, 42, 180, 0, 37]
abbrev dktX5_tellStates_2 : List UInt8 := dkwX5_tellStates_2 ++ dktX5_tellStates_3
def dkwX5_tellStates_1 : List UInt8 := [3, 61, 28, 42, 180, 0, 156, 162, 0, 74, 28, 158, 0, 9, 42, 16, 44, 182, 0, 210, 42, 16, 48, 28]
abbrev dktX5_tellStates_1 : List UInt8 := dkwX5_tellStates_1 ++ dktX5_tellStates_2
def dkwX5_tellStates_0 : List UInt8 := [27, 184, 0, 99, 154, 0, 6, 16, 245, 172, 42, 27, 182, 0, 170, 42, 182, 0, 173, 42, 3, 181, 0, 207]
abbrev dktX5_tellStates_0 : List UInt8 := dkwX5_tellStates_0 ++ dktX5_tellStates_1
theorem dksX5_tellStates_0 : cX5_tellStates.data.toList.drop 0 = dktX5_tellStates_0 := by decide +kernel
theorem dksX5_tellStates_1 : cX5_tellStates.data.toList.drop 24 = dktX5_tellStates_1 := dk_seg dksX5_tellStates_0 24 rfl rfl
theorem dksX5_tellStates_2 : cX5_tellStates.data.toList.drop 48 = dktX5_tellStates_2 := dk_seg dksX5_tellStates_1 24 rfl rfl
theorem dksX5_tellStates_3 : cX5_tellStates.data.toList.drop 72 = dktX5_tellStates_3 := dk_seg dksX5_tellStates_2 24 rfl rfl
theorem dksX5_tellStates_4 : cX5_tellStates.data.toList.drop 96 = dktX5_tellStates_4 := dk_seg dksX5_tellStates_3 24 rfl rfl
theorem dX5_tellStates_0 : decode cX5_tellStates 0 = .ok (.iload_n 1, 1) := dk_27 (dk_at dksX5_tellStates_0 0 rfl rfl)
theorem dX5_tellStates_1 : decode cX5_tellStates 1 = .ok (.invokestatic 99, 3) := dk_184 0 99 (dk_at dksX5_tellStates_0 1 rfl rfl)
theorem dX5_tellStates_4 : decode cX5_tellStates 4 = .ok (.ifCond .ne 6, 3) := dk_154 0 6 (dk_at dksX5_tellStates_0 4 rfl rfl)
theorem dX5_tellStates_7 : decode cX5_tellStates 7 = .ok (.bipush (-11), 2) := dk_16 245 (dk_at dksX5_tellStates_0 7 rfl rfl)
theorem dX5_tellStates_9 : decode cX5_tellStates 9 = .ok (.ireturn, 1) := dk_172 (dk_at dksX5_tellStates_0 9 rfl rfl)
theorem dX5_tellStates_10 : decode cX5_tellStates 10 = .ok (.aload_n 0, 1) := dk_42 (dk_at dksX5_tellStates_0 10 rfl rfl)
theorem dX5_tellStates_11 : decode cX5_tellStates 11 = .ok (.iload_n 1, 1) := dk_27 (dk_at dksX5_tellStates_0 11 rfl rfl)
theorem dX5_tellStates_12 : decode cX5_tellStates 12 = .ok (.invokevirtual 170, 3) := dk_182 0 170 (dk_at dksX5_tellStates_0 12 rfl rfl)
theorem dX5_tellStates_15 : decode cX5_tellStates 15 = .ok (.aload_n 0, 1) := dk_42 (dk_at dksX5_tellStates_0 15 rfl rfl)
theorem dX5_tellStates_16 : decode cX5_tellStates 16 = .ok (.invokevirtual 173, 3) := dk_182 0 173 (dk_at dksX5_tellStates_0 16 rfl rfl)
theorem dX5_tellStates_19 : decode cX5_tellStates 19 = .ok (.aload_n 0, 1) := dk_42 (dk_at dksX5_tellStates_0 19 rfl rfl)
theorem dX5_tellStates_20 : decode cX5_tellStates 20 = .ok (.iconst 0, 1) := dk_3 (dk_at dksX5_tellStates_0 20 rfl rfl)
theorem dX5_tellStates_21 : decode cX5_tellStates 21 = .ok (.putfield 207, 3) := dk_181 0 207 (dk_at dksX5_tellStates_0 21 rfl rfl)
theorem dX5_tellStates_24 : decode cX5_tellStates 24 = .ok (.iconst 0, 1) := dk_3 (dk_at dksX5_tellStates_1 0 rfl rfl)
theorem dX5_tellStates_25 : decode cX5_tellStates 25 = .ok (.istore_n 2, 1) := dk_61 (dk_at dksX5_tellStates_1 1 rfl rfl)
theorem dX5_tellStates_26 : decode cX5_tellStates 26 = .ok (.iload_n 2, 1) := dk_28 (dk_at dksX5_tellStates_1 2 rfl rfl)
theorem dX5_tellStates_27 : decode cX5_tellStates 27 = .ok (.aload_n 0, 1) := dk_42 (dk_at dksX5_tellStates_1 3 rfl rfl)
theorem dX5_tellStates_28 : decode cX5_tellStates 28 = .ok (.getfield 156, 3) := dk_180 0 156 (dk_at dksX5_tellStates_1 4 rfl rfl)
theorem dX5_tellStates_31 : decode cX5_tellStates 31 = .ok (.if_icmp .ge 74, 3) := dk_162 0 74 (dk_at dksX5_tellStates_1 7 rfl rfl)
theorem dX5_tellStates_34 : decode cX5_tellStates 34 = .ok (.iload_n 2, 1) := dk_28 (dk_at dksX5_tellStates_1 10 rfl rfl)
theorem dX5_tellStates_35 : decode cX5_tellStates 35 = .ok (.ifCond .le 9, 3) := dk_158 0 9 (dk_at dksX5_tellStates_1 11 rfl rfl)
theorem dX5_tellStates_38 : decode cX5_tellStates 38 = .ok (.aload_n 0, 1) := dk_42 (dk_at dksX5_tellStates_1 14 rfl rfl)
theorem dX5_tellStates_39 : decode cX5_tellStates 39 = .ok (.bipush 44, 2) := dk_16 44 (dk_at dksX5_tellStates_1 15 rfl rfl)
theorem dX5_tellStates_41 : decode cX5_tellStates 41 = .ok (.invokevirtual 210, 3) := dk_182 0 210 (dk_at dksX5_tellStates_1 17 rfl rfl)
theorem dX5_tellStates_44 : decode cX5_tellStates 44 = .ok (.aload_n 0, 1) := dk_42 (dk_at dksX5_tellStates_1 20 rfl rfl)
theorem dX5_tellStates_45 : decode cX5_tellStates 45 = .ok (.bipush 48, 2) := dk_16 48 (dk_at dksX5_tellStates_1 21 rfl rfl)
theorem dX5_tellStates_47 : decode cX5_tellStates 47 = .ok (.iload_n 2, 1) := dk_28 (dk_at dksX5_tellStates_1 23 rfl rfl)
theorem dX5_tellStates_48 : decode cX5_tellStates 48 = .ok (.iadd, 1) := dk_96 (dk_at dksX5_tellStates_2 0 rfl rfl)
theorem dX5_tellStates_49 : decode cX5_tellStates 49 = .ok (.invokevirtual 210, 3) := dk_182 0 210 (dk_at dksX5_tellStates_2 1 rfl rfl)
theorem dX5_tellStates_52 : decode cX5_tellStates 52 = .ok (.aload_n 0, 1) := dk_42 (dk_at dksX5_tellStates_2 4 rfl rfl)
theorem dX5_tellStates_53 : decode cX5_tellStates 53 = .ok (.getfield 43, 3) := dk_180 0 43 (dk_at dksX5_tellStates_2 5 rfl rfl)
theorem dX5_tellStates_56 : decode cX5_tellStates 56 = .ok (.iload_n 2, 1) := dk_28 (dk_at dksX5_tellStates_2 8 rfl rfl)
theorem dX5_tellStates_57 : decode cX5_tellStates 57 = .ok (.iaload, 1) := dk_46 (dk_at dksX5_tellStates_2 9 rfl rfl)
theorem dX5_tellStates_58 : decode cX5_tellStates 58 = .ok (.iconst 1, 1) := dk_4 (dk_at dksX5_tellStates_2 10 rfl rfl)
theorem dX5_tellStates_59 : decode cX5_tellStates 59 = .ok (.if_icmp .ne 9, 3) := dk_160 0 9 (dk_at dksX5_tellStates_2 11 rfl rfl)
theorem dX5_tellStates_62 : decode cX5_tellStates 62 = .ok (.aload_n 0, 1) := dk_42 (dk_at dksX5_tellStates_2 14 rfl rfl)
theorem dX5_tellStates_63 : decode cX5_tellStates 63 = .ok (.bipush 33, 2) := dk_16 33 (dk_at dksX5_tellStates_2 15 rfl rfl)
theorem dX5_tellStates_65 : decode cX5_tellStates 65 = .ok (.invokevirtual 210, 3) := dk_182 0 210 (dk_at dksX5_tellStates_2 17 rfl rfl)
theorem dX5_tellStates_68 : decode cX5_tellStates 68 = .ok (.aload_n 0, 1) := dk_42 (dk_at dksX5_tellStates_2 20 rfl rfl)
theorem dX5_tellStates_69 : decode cX5_tellStates 69 = .ok (.getfield 37, 3) := dk_180 0 37 (dk_at dksX5_tellStates_2 21 rfl rfl)
theorem dX5_tellStates_72 : decode cX5_tellStates 72 = .ok (.iload_n 2, 1) := dk_28 (dk_at dksX5_tellStates_3 0 rfl rfl)
theorem dX5_tellStates_73 : decode cX5_tellStates 73 = .ok (.iaload, 1) := dk_46 (dk_at dksX5_tellStates_3 1 rfl rfl)
theorem dX5_tellStates_74 : decode cX5_tellStates 74 = .ok (.ifCond .ge 6, 3) := dk_156 0 6 (dk_at dksX5_tellStates_3 2 rfl rfl)
theorem dX5_tellStates_77 : decode cX5_tellStates 77 = .ok (.goto 22, 3) := dk_167 0 22 (dk_at dksX5_tellStates_3 5 rfl rfl)
theorem dX5_tellStates_80 : decode cX5_tellStates 80 = .ok (.aload_n 0, 1) := dk_42 (dk_at dksX5_tellStates_3 8 rfl rfl)
theorem dX5_tellStates_81 : decode cX5_tellStates 81 = .ok (.bipush 61, 2) := dk_16 61 (dk_at dksX5_tellStates_3 9 rfl rfl)
theorem dX5_tellStates_83 : decode cX5_tellStates 83 = .ok (.invokevirtual 210, 3) := dk_182 0 210 (dk_at dksX5_tellStates_3 11 rfl rfl)
theorem dX5_tellStates_86 : decode cX5_tellStates 86 = .ok (.aload_n 0, 1) := dk_42 (dk_at dksX5_tellStates_3 14 rfl rfl)
theorem dX5_tellStates_87 : decode cX5_tellStates 87 = .ok (.bipush 48, 2) := dk_16 48 (dk_at dksX5_tellStates_3 15 rfl rfl)
theorem dX5_tellStates_89 : decode cX5_tellStates 89 = .ok (.aload_n 0, 1) := dk_42 (dk_at dksX5_tellStates_3 17 rfl rfl)
theorem dX5_tellStates_90 : decode cX5_tellStates 90 = .ok (.getfield 37, 3) := dk_180 0 37 (dk_at dksX5_tellStates_3 18 rfl rfl)
theorem dX5_tellStates_93 : decode cX5_tellStates 93 = .ok (.iload_n 2, 1) := dk_28 (dk_at dksX5_tellStates_3 21 rfl rfl)
theorem dX5_tellStates_94 : decode cX5_tellStates 94 = .ok (.iaload, 1) := dk_46 (dk_at dksX5_tellStates_3 22 rfl rfl)
theorem dX5_tellStates_95 : decode cX5_tellStates 95 = .ok (.iadd, 1) := dk_96 (dk_at dksX5_tellStates_3 23 rfl rfl)
theorem dX5_tellStates_96 : decode cX5_tellStates 96 = .ok (.invokevirtual 210, 3) := dk_182 0 210 (dk_at dksX5_tellStates_4 0 rfl rfl)
theorem dX5_tellStates_99 : decode cX5_tellStates 99 = .ok (.iinc 2 1, 3) := dk_132 2 1 (dk_at dksX5_tellStates_4 3 rfl rfl)
theorem dX5_tellStates_102 : decode cX5_tellStates 102 = .ok (.goto (-76), 3) := dk_167 255 180 (dk_at dksX5_tellStates_4 6 rfl rfl)
theorem dX5_tellStates_105 : decode cX5_tellStates 105 = .ok (.aload_n 0, 1) := dk_42 (dk_at dksX5_tellStates_4 9 rfl rfl)
theorem dX5_tellStates_106 : decode cX5_tellStates 106 = .ok (.getfield 207, 3) := dk_180 0 207 (dk_at dksX5_tellStates_4 10 rfl rfl)
theorem dX5_tellStates_109 : decode cX5_tellStates 109 = .ok (.ireturn, 1) := dk_172 (dk_at dksX5_tellStates_4 13 rfl rfl)
abbrev cX5_character : ByteArray := prog_19_method_74_code
def yX5_character : MethodName := ⟨RX5, "character", "(I)I"⟩
def dkwX5_character_1 : List UInt8 := [16, 245, 172]
abbrev dktX5_character_1 : List UInt8 := dkwX5_character_1 ++ []
def dkwX5_character_0 : List UInt8 := [27, 3, 42, 180, 0, 207, 4, 100, 184, 0, 95, 153, 0, 12, 42, 180, 0, 62, 27, 46, 167, 0, 5]
abbrev dktX5_character_0 : List UInt8 := dkwX5_character_0 ++ dktX5_character_1
theorem dksX5_character_0 : cX5_character.data.toList.drop 0 = dktX5_character_0 := by decide +kernel
theorem dksX5_character_1 : cX5_character.data.toList.drop 23 = dktX5_character_1 := dk_seg dksX5_character_0 23 rfl rfl
theorem dX5_character_0 : decode cX5_character 0 = .ok (.iload_n 1, 1) := dk_27 (dk_at dksX5_character_0 0 rfl rfl)
theorem dX5_character_1 : decode cX5_character 1 = .ok (.iconst 0, 1) := dk_3 (dk_at dksX5_character_0 1 rfl rfl)
theorem dX5_character_2 : decode cX5_character 2 = .ok (.aload_n 0, 1) := dk_42 (dk_at dksX5_character_0 2 rfl rfl)
theorem dX5_character_3 : decode cX5_character 3 = .ok (.getfield 207, 3) := dk_180 0 207 (dk_at dksX5_character_0 3 rfl rfl)
theorem dX5_character_6 : decode cX5_character 6 = .ok (.iconst 1, 1) := dk_4 (dk_at dksX5_character_0 6 rfl rfl)
theorem dX5_character_7 : decode cX5_character 7 = .ok (.isub, 1) := dk_100 (dk_at dksX5_character_0 7 rfl rfl)
theorem dX5_character_8 : decode cX5_character 8 = .ok (.invokestatic 95, 3) := dk_184 0 95 (dk_at dksX5_character_0 8 rfl rfl)
theorem dX5_character_11 : decode cX5_character 11 = .ok (.ifCond .eq 12, 3) := dk_153 0 12 (dk_at dksX5_character_0 11 rfl rfl)
theorem dX5_character_14 : decode cX5_character 14 = .ok (.aload_n 0, 1) := dk_42 (dk_at dksX5_character_0 14 rfl rfl)
theorem dX5_character_15 : decode cX5_character 15 = .ok (.getfield 62, 3) := dk_180 0 62 (dk_at dksX5_character_0 15 rfl rfl)
theorem dX5_character_18 : decode cX5_character 18 = .ok (.iload_n 1, 1) := dk_27 (dk_at dksX5_character_0 18 rfl rfl)
theorem dX5_character_19 : decode cX5_character 19 = .ok (.iaload, 1) := dk_46 (dk_at dksX5_character_0 19 rfl rfl)
theorem dX5_character_20 : decode cX5_character 20 = .ok (.goto 5, 3) := dk_167 0 5 (dk_at dksX5_character_0 20 rfl rfl)
theorem dX5_character_23 : decode cX5_character 23 = .ok (.bipush (-11), 2) := dk_16 245 (dk_at dksX5_character_1 0 rfl rfl)
theorem dX5_character_25 : decode cX5_character 25 = .ok (.ireturn, 1) := dk_172 (dk_at dksX5_character_1 2 rfl rfl)
abbrev cX5_reason : ByteArray := prog_19_method_75_code
def yX5_reason : MethodName := ⟨RX5, "reason", "(ZZ)I"⟩
def dkwX5_reason_2 : List UInt8 := [167, 0, 7, 42, 180, 0, 78, 172]
abbrev dktX5_reason_2 : List UInt8 := dkwX5_reason_2 ++ []
def dkwX5_reason_1 : List UInt8 := [154, 0, 6, 16, 241, 172, 28, 154, 0, 7, 29, 167, 0, 18, 27, 153, 0, 10, 42, 180, 1, 27]
abbrev dktX5_reason_1 : List UInt8 := dkwX5_reason_1 ++ dktX5_reason_2
def dkwX5_reason_0 : List UInt8 := [27, 153, 0, 10, 42, 180, 0, 81, 167, 0, 7, 42, 180, 0, 75, 62, 42, 180, 0, 75, 153, 0, 7, 29]
abbrev dktX5_reason_0 : List UInt8 := dkwX5_reason_0 ++ dktX5_reason_1
theorem dksX5_reason_0 : cX5_reason.data.toList.drop 0 = dktX5_reason_0 := by decide +kernel
theorem dksX5_reason_1 : cX5_reason.data.toList.drop 24 = dktX5_reason_1 := dk_seg dksX5_reason_0 24 rfl rfl
theorem dksX5_reason_2 : cX5_reason.data.toList.drop 46 = dktX5_reason_2 := dk_seg dksX5_reason_1 22 rfl rfl
theorem dX5_reason_0 : decode cX5_reason 0 = .ok (.iload_n 1, 1) := dk_27 (dk_at dksX5_reason_0 0 rfl rfl)
theorem dX5_reason_1 : decode cX5_reason 1 = .ok (.ifCond .eq 10, 3) := dk_153 0 10 (dk_at dksX5_reason_0 1 rfl rfl)
theorem dX5_reason_4 : decode cX5_reason 4 = .ok (.aload_n 0, 1) := dk_42 (dk_at dksX5_reason_0 4 rfl rfl)
theorem dX5_reason_5 : decode cX5_reason 5 = .ok (.getfield 81, 3) := dk_180 0 81 (dk_at dksX5_reason_0 5 rfl rfl)
theorem dX5_reason_8 : decode cX5_reason 8 = .ok (.goto 7, 3) := dk_167 0 7 (dk_at dksX5_reason_0 8 rfl rfl)
theorem dX5_reason_11 : decode cX5_reason 11 = .ok (.aload_n 0, 1) := dk_42 (dk_at dksX5_reason_0 11 rfl rfl)
theorem dX5_reason_12 : decode cX5_reason 12 = .ok (.getfield 75, 3) := dk_180 0 75 (dk_at dksX5_reason_0 12 rfl rfl)
theorem dX5_reason_15 : decode cX5_reason 15 = .ok (.istore_n 3, 1) := dk_62 (dk_at dksX5_reason_0 15 rfl rfl)
theorem dX5_reason_16 : decode cX5_reason 16 = .ok (.aload_n 0, 1) := dk_42 (dk_at dksX5_reason_0 16 rfl rfl)
theorem dX5_reason_17 : decode cX5_reason 17 = .ok (.getfield 75, 3) := dk_180 0 75 (dk_at dksX5_reason_0 17 rfl rfl)
theorem dX5_reason_20 : decode cX5_reason 20 = .ok (.ifCond .eq 7, 3) := dk_153 0 7 (dk_at dksX5_reason_0 20 rfl rfl)
theorem dX5_reason_23 : decode cX5_reason 23 = .ok (.iload_n 3, 1) := dk_29 (dk_at dksX5_reason_0 23 rfl rfl)
theorem dX5_reason_24 : decode cX5_reason 24 = .ok (.ifCond .ne 6, 3) := dk_154 0 6 (dk_at dksX5_reason_1 0 rfl rfl)
theorem dX5_reason_27 : decode cX5_reason 27 = .ok (.bipush (-15), 2) := dk_16 241 (dk_at dksX5_reason_1 3 rfl rfl)
theorem dX5_reason_29 : decode cX5_reason 29 = .ok (.ireturn, 1) := dk_172 (dk_at dksX5_reason_1 5 rfl rfl)
theorem dX5_reason_30 : decode cX5_reason 30 = .ok (.iload_n 2, 1) := dk_28 (dk_at dksX5_reason_1 6 rfl rfl)
theorem dX5_reason_31 : decode cX5_reason 31 = .ok (.ifCond .ne 7, 3) := dk_154 0 7 (dk_at dksX5_reason_1 7 rfl rfl)
theorem dX5_reason_34 : decode cX5_reason 34 = .ok (.iload_n 3, 1) := dk_29 (dk_at dksX5_reason_1 10 rfl rfl)
theorem dX5_reason_35 : decode cX5_reason 35 = .ok (.goto 18, 3) := dk_167 0 18 (dk_at dksX5_reason_1 11 rfl rfl)
theorem dX5_reason_38 : decode cX5_reason 38 = .ok (.iload_n 1, 1) := dk_27 (dk_at dksX5_reason_1 14 rfl rfl)
theorem dX5_reason_39 : decode cX5_reason 39 = .ok (.ifCond .eq 10, 3) := dk_153 0 10 (dk_at dksX5_reason_1 15 rfl rfl)
theorem dX5_reason_42 : decode cX5_reason 42 = .ok (.aload_n 0, 1) := dk_42 (dk_at dksX5_reason_1 18 rfl rfl)
theorem dX5_reason_43 : decode cX5_reason 43 = .ok (.getfield 283, 3) := dk_180 1 27 (dk_at dksX5_reason_1 19 rfl rfl)
theorem dX5_reason_46 : decode cX5_reason 46 = .ok (.goto 7, 3) := dk_167 0 7 (dk_at dksX5_reason_2 0 rfl rfl)
theorem dX5_reason_49 : decode cX5_reason 49 = .ok (.aload_n 0, 1) := dk_42 (dk_at dksX5_reason_2 3 rfl rfl)
theorem dX5_reason_50 : decode cX5_reason 50 = .ok (.getfield 78, 3) := dk_180 0 78 (dk_at dksX5_reason_2 4 rfl rfl)
theorem dX5_reason_53 : decode cX5_reason 53 = .ok (.ireturn, 1) := dk_172 (dk_at dksX5_reason_2 7 rfl rfl)
abbrev cX5_account : ByteArray := prog_19_method_77_code
def yX5_account : MethodName := ⟨RX5, "account", "(I)I"⟩
def dkwX5_account_4 : List UInt8 := [16, 244, 172]
abbrev dktX5_account_4 : List UInt8 := dkwX5_account_4 ++ []
def dkwX5_account_3 : List UInt8 := [42, 180, 0, 7, 16, 14, 27, 96, 16, 8, 100, 46, 172, 42, 180, 0, 183, 172, 42, 180, 0, 92, 172]
abbrev dktX5_account_3 : List UInt8 := dkwX5_account_3 ++ dktX5_account_4
def dkwX5_account_2 : List UInt8 := [42, 180, 0, 7, 27, 46, 172, 42, 27, 7, 100, 182, 0, 123, 172, 42, 27, 16, 6, 100, 182, 1, 33, 172]
abbrev dktX5_account_2 : List UInt8 := dkwX5_account_2 ++ dktX5_account_3
def dkwX5_account_1 : List UInt8 := [170, 0, 0, 0, 0, 0, 114, 0, 0, 0, 0, 0, 0, 0, 12, 0, 0, 0, 67, 0, 0, 0, 67, 0, 0, 0, 67, 0, 0, 0, 67, 0, 0, 0, 74, 0, 0, 0, 74, 0, 0, 0, 82, 0, 0, 0, 82, 0, 0, 0, 91, 0, 0, 0, 91, 0, 0, 0, 91, 0, 0, 0, 104, 0, 0, 0, 109]
abbrev dktX5_account_1 : List UInt8 := dkwX5_account_1 ++ dktX5_account_2
def dkwX5_account_0 : List UInt8 := [27]
abbrev dktX5_account_0 : List UInt8 := dkwX5_account_0 ++ dktX5_account_1
theorem dksX5_account_0 : cX5_account.data.toList.drop 0 = dktX5_account_0 := by decide +kernel
theorem dksX5_account_1 : cX5_account.data.toList.drop 1 = dktX5_account_1 := dk_seg dksX5_account_0 1 rfl rfl
theorem dksX5_account_2 : cX5_account.data.toList.drop 68 = dktX5_account_2 := dk_seg dksX5_account_1 67 rfl rfl
theorem dksX5_account_3 : cX5_account.data.toList.drop 92 = dktX5_account_3 := dk_seg dksX5_account_2 24 rfl rfl
theorem dksX5_account_4 : cX5_account.data.toList.drop 115 = dktX5_account_4 := dk_seg dksX5_account_3 23 rfl rfl
theorem dX5_account_0 : decode cX5_account 0 = .ok (.iload_n 1, 1) := dk_27 (dk_at dksX5_account_0 0 rfl rfl)
theorem dX5_account_1 : decode cX5_account 1 = .ok (.tableswitch 114 0 12 #[67, 67, 67, 67, 74, 74, 82, 82, 91, 91, 91, 104, 109], 67) := by decide +kernel
theorem dX5_account_68 : decode cX5_account 68 = .ok (.aload_n 0, 1) := dk_42 (dk_at dksX5_account_2 0 rfl rfl)
theorem dX5_account_69 : decode cX5_account 69 = .ok (.getfield 7, 3) := dk_180 0 7 (dk_at dksX5_account_2 1 rfl rfl)
theorem dX5_account_72 : decode cX5_account 72 = .ok (.iload_n 1, 1) := dk_27 (dk_at dksX5_account_2 4 rfl rfl)
theorem dX5_account_73 : decode cX5_account 73 = .ok (.iaload, 1) := dk_46 (dk_at dksX5_account_2 5 rfl rfl)
theorem dX5_account_74 : decode cX5_account 74 = .ok (.ireturn, 1) := dk_172 (dk_at dksX5_account_2 6 rfl rfl)
theorem dX5_account_75 : decode cX5_account 75 = .ok (.aload_n 0, 1) := dk_42 (dk_at dksX5_account_2 7 rfl rfl)
theorem dX5_account_76 : decode cX5_account 76 = .ok (.iload_n 1, 1) := dk_27 (dk_at dksX5_account_2 8 rfl rfl)
theorem dX5_account_77 : decode cX5_account 77 = .ok (.iconst 4, 1) := dk_7 (dk_at dksX5_account_2 9 rfl rfl)
theorem dX5_account_78 : decode cX5_account 78 = .ok (.isub, 1) := dk_100 (dk_at dksX5_account_2 10 rfl rfl)
theorem dX5_account_79 : decode cX5_account 79 = .ok (.invokevirtual 123, 3) := dk_182 0 123 (dk_at dksX5_account_2 11 rfl rfl)
theorem dX5_account_82 : decode cX5_account 82 = .ok (.ireturn, 1) := dk_172 (dk_at dksX5_account_2 14 rfl rfl)
theorem dX5_account_83 : decode cX5_account 83 = .ok (.aload_n 0, 1) := dk_42 (dk_at dksX5_account_2 15 rfl rfl)
theorem dX5_account_84 : decode cX5_account 84 = .ok (.iload_n 1, 1) := dk_27 (dk_at dksX5_account_2 16 rfl rfl)
theorem dX5_account_85 : decode cX5_account 85 = .ok (.bipush 6, 2) := dk_16 6 (dk_at dksX5_account_2 17 rfl rfl)
theorem dX5_account_87 : decode cX5_account 87 = .ok (.isub, 1) := dk_100 (dk_at dksX5_account_2 19 rfl rfl)
theorem dX5_account_88 : decode cX5_account 88 = .ok (.invokevirtual 289, 3) := dk_182 1 33 (dk_at dksX5_account_2 20 rfl rfl)
theorem dX5_account_91 : decode cX5_account 91 = .ok (.ireturn, 1) := dk_172 (dk_at dksX5_account_2 23 rfl rfl)
theorem dX5_account_92 : decode cX5_account 92 = .ok (.aload_n 0, 1) := dk_42 (dk_at dksX5_account_3 0 rfl rfl)
theorem dX5_account_93 : decode cX5_account 93 = .ok (.getfield 7, 3) := dk_180 0 7 (dk_at dksX5_account_3 1 rfl rfl)
theorem dX5_account_96 : decode cX5_account 96 = .ok (.bipush 14, 2) := dk_16 14 (dk_at dksX5_account_3 4 rfl rfl)
theorem dX5_account_98 : decode cX5_account 98 = .ok (.iload_n 1, 1) := dk_27 (dk_at dksX5_account_3 6 rfl rfl)
theorem dX5_account_99 : decode cX5_account 99 = .ok (.iadd, 1) := dk_96 (dk_at dksX5_account_3 7 rfl rfl)
theorem dX5_account_100 : decode cX5_account 100 = .ok (.bipush 8, 2) := dk_16 8 (dk_at dksX5_account_3 8 rfl rfl)
theorem dX5_account_102 : decode cX5_account 102 = .ok (.isub, 1) := dk_100 (dk_at dksX5_account_3 10 rfl rfl)
theorem dX5_account_103 : decode cX5_account 103 = .ok (.iaload, 1) := dk_46 (dk_at dksX5_account_3 11 rfl rfl)
theorem dX5_account_104 : decode cX5_account 104 = .ok (.ireturn, 1) := dk_172 (dk_at dksX5_account_3 12 rfl rfl)
theorem dX5_account_105 : decode cX5_account 105 = .ok (.aload_n 0, 1) := dk_42 (dk_at dksX5_account_3 13 rfl rfl)
theorem dX5_account_106 : decode cX5_account 106 = .ok (.getfield 183, 3) := dk_180 0 183 (dk_at dksX5_account_3 14 rfl rfl)
theorem dX5_account_109 : decode cX5_account 109 = .ok (.ireturn, 1) := dk_172 (dk_at dksX5_account_3 17 rfl rfl)
theorem dX5_account_110 : decode cX5_account 110 = .ok (.aload_n 0, 1) := dk_42 (dk_at dksX5_account_3 18 rfl rfl)
theorem dX5_account_111 : decode cX5_account 111 = .ok (.getfield 92, 3) := dk_180 0 92 (dk_at dksX5_account_3 19 rfl rfl)
theorem dX5_account_114 : decode cX5_account 114 = .ok (.ireturn, 1) := dk_172 (dk_at dksX5_account_3 22 rfl rfl)
theorem dX5_account_115 : decode cX5_account 115 = .ok (.bipush (-12), 2) := dk_16 244 (dk_at dksX5_account_4 0 rfl rfl)
theorem dX5_account_117 : decode cX5_account 117 = .ok (.ireturn, 1) := dk_172 (dk_at dksX5_account_4 2 rfl rfl)
abbrev cX5_ofArcs : ByteArray := prog_19_method_76_code
def yX5_ofArcs : MethodName := ⟨RX5, "ofArcs", "(I)I"⟩
def dkwX5_ofArcs_3 : List UInt8 := [132, 4, 1, 167, 255, 197, 132, 3, 1, 167, 255, 183, 28, 172]
abbrev dktX5_ofArcs_3 : List UInt8 := dkwX5_ofArcs_3 ++ []
def dkwX5_ofArcs_2 : List UInt8 := [180, 0, 7, 29, 21, 4, 5, 184, 0, 130, 46, 7, 160, 0, 7, 4, 167, 0, 4, 3, 96, 61]
abbrev dktX5_ofArcs_2 : List UInt8 := dkwX5_ofArcs_2 ++ dktX5_ofArcs_3
def dkwX5_ofArcs_1 : List UInt8 := [162, 0, 52, 28, 27, 154, 0, 18, 42, 180, 0, 7, 29, 21, 4, 7, 184, 0, 130, 46, 167, 0, 24, 42]
abbrev dktX5_ofArcs_1 : List UInt8 := dkwX5_ofArcs_1 ++ dktX5_ofArcs_2
def dkwX5_ofArcs_0 : List UInt8 := [3, 61, 3, 62, 29, 5, 162, 0, 74, 3, 54, 4, 21, 4, 42, 180, 0, 7, 5, 29, 96, 46]
abbrev dktX5_ofArcs_0 : List UInt8 := dkwX5_ofArcs_0 ++ dktX5_ofArcs_1
theorem dksX5_ofArcs_0 : cX5_ofArcs.data.toList.drop 0 = dktX5_ofArcs_0 := by decide +kernel
theorem dksX5_ofArcs_1 : cX5_ofArcs.data.toList.drop 22 = dktX5_ofArcs_1 := dk_seg dksX5_ofArcs_0 22 rfl rfl
theorem dksX5_ofArcs_2 : cX5_ofArcs.data.toList.drop 46 = dktX5_ofArcs_2 := dk_seg dksX5_ofArcs_1 24 rfl rfl
theorem dksX5_ofArcs_3 : cX5_ofArcs.data.toList.drop 68 = dktX5_ofArcs_3 := dk_seg dksX5_ofArcs_2 22 rfl rfl
theorem dX5_ofArcs_0 : decode cX5_ofArcs 0 = .ok (.iconst 0, 1) := dk_3 (dk_at dksX5_ofArcs_0 0 rfl rfl)
theorem dX5_ofArcs_1 : decode cX5_ofArcs 1 = .ok (.istore_n 2, 1) := dk_61 (dk_at dksX5_ofArcs_0 1 rfl rfl)
theorem dX5_ofArcs_2 : decode cX5_ofArcs 2 = .ok (.iconst 0, 1) := dk_3 (dk_at dksX5_ofArcs_0 2 rfl rfl)
theorem dX5_ofArcs_3 : decode cX5_ofArcs 3 = .ok (.istore_n 3, 1) := dk_62 (dk_at dksX5_ofArcs_0 3 rfl rfl)
theorem dX5_ofArcs_4 : decode cX5_ofArcs 4 = .ok (.iload_n 3, 1) := dk_29 (dk_at dksX5_ofArcs_0 4 rfl rfl)
theorem dX5_ofArcs_5 : decode cX5_ofArcs 5 = .ok (.iconst 2, 1) := dk_5 (dk_at dksX5_ofArcs_0 5 rfl rfl)
theorem dX5_ofArcs_6 : decode cX5_ofArcs 6 = .ok (.if_icmp .ge 74, 3) := dk_162 0 74 (dk_at dksX5_ofArcs_0 6 rfl rfl)
theorem dX5_ofArcs_9 : decode cX5_ofArcs 9 = .ok (.iconst 0, 1) := dk_3 (dk_at dksX5_ofArcs_0 9 rfl rfl)
theorem dX5_ofArcs_10 : decode cX5_ofArcs 10 = .ok (.istore 4, 2) := dk_54 4 (dk_at dksX5_ofArcs_0 10 rfl rfl)
theorem dX5_ofArcs_12 : decode cX5_ofArcs 12 = .ok (.iload 4, 2) := dk_21 4 (dk_at dksX5_ofArcs_0 12 rfl rfl)
theorem dX5_ofArcs_14 : decode cX5_ofArcs 14 = .ok (.aload_n 0, 1) := dk_42 (dk_at dksX5_ofArcs_0 14 rfl rfl)
theorem dX5_ofArcs_15 : decode cX5_ofArcs 15 = .ok (.getfield 7, 3) := dk_180 0 7 (dk_at dksX5_ofArcs_0 15 rfl rfl)
theorem dX5_ofArcs_18 : decode cX5_ofArcs 18 = .ok (.iconst 2, 1) := dk_5 (dk_at dksX5_ofArcs_0 18 rfl rfl)
theorem dX5_ofArcs_19 : decode cX5_ofArcs 19 = .ok (.iload_n 3, 1) := dk_29 (dk_at dksX5_ofArcs_0 19 rfl rfl)
theorem dX5_ofArcs_20 : decode cX5_ofArcs 20 = .ok (.iadd, 1) := dk_96 (dk_at dksX5_ofArcs_0 20 rfl rfl)
theorem dX5_ofArcs_21 : decode cX5_ofArcs 21 = .ok (.iaload, 1) := dk_46 (dk_at dksX5_ofArcs_0 21 rfl rfl)
theorem dX5_ofArcs_22 : decode cX5_ofArcs 22 = .ok (.if_icmp .ge 52, 3) := dk_162 0 52 (dk_at dksX5_ofArcs_1 0 rfl rfl)
theorem dX5_ofArcs_25 : decode cX5_ofArcs 25 = .ok (.iload_n 2, 1) := dk_28 (dk_at dksX5_ofArcs_1 3 rfl rfl)
theorem dX5_ofArcs_26 : decode cX5_ofArcs 26 = .ok (.iload_n 1, 1) := dk_27 (dk_at dksX5_ofArcs_1 4 rfl rfl)
theorem dX5_ofArcs_27 : decode cX5_ofArcs 27 = .ok (.ifCond .ne 18, 3) := dk_154 0 18 (dk_at dksX5_ofArcs_1 5 rfl rfl)
theorem dX5_ofArcs_30 : decode cX5_ofArcs 30 = .ok (.aload_n 0, 1) := dk_42 (dk_at dksX5_ofArcs_1 8 rfl rfl)
theorem dX5_ofArcs_31 : decode cX5_ofArcs 31 = .ok (.getfield 7, 3) := dk_180 0 7 (dk_at dksX5_ofArcs_1 9 rfl rfl)
theorem dX5_ofArcs_34 : decode cX5_ofArcs 34 = .ok (.iload_n 3, 1) := dk_29 (dk_at dksX5_ofArcs_1 12 rfl rfl)
theorem dX5_ofArcs_35 : decode cX5_ofArcs 35 = .ok (.iload 4, 2) := dk_21 4 (dk_at dksX5_ofArcs_1 13 rfl rfl)
theorem dX5_ofArcs_37 : decode cX5_ofArcs 37 = .ok (.iconst 4, 1) := dk_7 (dk_at dksX5_ofArcs_1 15 rfl rfl)
theorem dX5_ofArcs_38 : decode cX5_ofArcs 38 = .ok (.invokestatic 130, 3) := dk_184 0 130 (dk_at dksX5_ofArcs_1 16 rfl rfl)
theorem dX5_ofArcs_41 : decode cX5_ofArcs 41 = .ok (.iaload, 1) := dk_46 (dk_at dksX5_ofArcs_1 19 rfl rfl)
theorem dX5_ofArcs_42 : decode cX5_ofArcs 42 = .ok (.goto 24, 3) := dk_167 0 24 (dk_at dksX5_ofArcs_1 20 rfl rfl)
theorem dX5_ofArcs_45 : decode cX5_ofArcs 45 = .ok (.aload_n 0, 1) := dk_42 (dk_at dksX5_ofArcs_1 23 rfl rfl)
theorem dX5_ofArcs_46 : decode cX5_ofArcs 46 = .ok (.getfield 7, 3) := dk_180 0 7 (dk_at dksX5_ofArcs_2 0 rfl rfl)
theorem dX5_ofArcs_49 : decode cX5_ofArcs 49 = .ok (.iload_n 3, 1) := dk_29 (dk_at dksX5_ofArcs_2 3 rfl rfl)
theorem dX5_ofArcs_50 : decode cX5_ofArcs 50 = .ok (.iload 4, 2) := dk_21 4 (dk_at dksX5_ofArcs_2 4 rfl rfl)
theorem dX5_ofArcs_52 : decode cX5_ofArcs 52 = .ok (.iconst 2, 1) := dk_5 (dk_at dksX5_ofArcs_2 6 rfl rfl)
theorem dX5_ofArcs_53 : decode cX5_ofArcs 53 = .ok (.invokestatic 130, 3) := dk_184 0 130 (dk_at dksX5_ofArcs_2 7 rfl rfl)
theorem dX5_ofArcs_56 : decode cX5_ofArcs 56 = .ok (.iaload, 1) := dk_46 (dk_at dksX5_ofArcs_2 10 rfl rfl)
theorem dX5_ofArcs_57 : decode cX5_ofArcs 57 = .ok (.iconst 4, 1) := dk_7 (dk_at dksX5_ofArcs_2 11 rfl rfl)
theorem dX5_ofArcs_58 : decode cX5_ofArcs 58 = .ok (.if_icmp .ne 7, 3) := dk_160 0 7 (dk_at dksX5_ofArcs_2 12 rfl rfl)
theorem dX5_ofArcs_61 : decode cX5_ofArcs 61 = .ok (.iconst 1, 1) := dk_4 (dk_at dksX5_ofArcs_2 15 rfl rfl)
theorem dX5_ofArcs_62 : decode cX5_ofArcs 62 = .ok (.goto 4, 3) := dk_167 0 4 (dk_at dksX5_ofArcs_2 16 rfl rfl)
theorem dX5_ofArcs_65 : decode cX5_ofArcs 65 = .ok (.iconst 0, 1) := dk_3 (dk_at dksX5_ofArcs_2 19 rfl rfl)
theorem dX5_ofArcs_66 : decode cX5_ofArcs 66 = .ok (.iadd, 1) := dk_96 (dk_at dksX5_ofArcs_2 20 rfl rfl)
theorem dX5_ofArcs_67 : decode cX5_ofArcs 67 = .ok (.istore_n 2, 1) := dk_61 (dk_at dksX5_ofArcs_2 21 rfl rfl)
theorem dX5_ofArcs_68 : decode cX5_ofArcs 68 = .ok (.iinc 4 1, 3) := dk_132 4 1 (dk_at dksX5_ofArcs_3 0 rfl rfl)
theorem dX5_ofArcs_71 : decode cX5_ofArcs 71 = .ok (.goto (-59), 3) := dk_167 255 197 (dk_at dksX5_ofArcs_3 3 rfl rfl)
theorem dX5_ofArcs_74 : decode cX5_ofArcs 74 = .ok (.iinc 3 1, 3) := dk_132 3 1 (dk_at dksX5_ofArcs_3 6 rfl rfl)
theorem dX5_ofArcs_77 : decode cX5_ofArcs 77 = .ok (.goto (-73), 3) := dk_167 255 183 (dk_at dksX5_ofArcs_3 9 rfl rfl)
theorem dX5_ofArcs_80 : decode cX5_ofArcs 80 = .ok (.iload_n 2, 1) := dk_28 (dk_at dksX5_ofArcs_3 12 rfl rfl)
theorem dX5_ofArcs_81 : decode cX5_ofArcs 81 = .ok (.ireturn, 1) := dk_172 (dk_at dksX5_ofArcs_3 13 rfl rfl)
abbrev cX5_isBalanced : ByteArray := prog_19_method_78_code
def yX5_isBalanced : MethodName := ⟨RX5, "isBalanced", "()I"⟩
def dkwX5_isBalanced_1 : List UInt8 := [16, 15, 46, 100, 160, 0, 7, 4, 167, 0, 4, 3, 172]
abbrev dktX5_isBalanced_1 : List UInt8 := dkwX5_isBalanced_1 ++ []
def dkwX5_isBalanced_0 : List UInt8 := [42, 180, 0, 7, 5, 46, 42, 180, 0, 7, 6, 46, 96, 42, 180, 0, 7, 16, 14, 46, 42, 180, 0, 7]
abbrev dktX5_isBalanced_0 : List UInt8 := dkwX5_isBalanced_0 ++ dktX5_isBalanced_1
theorem dksX5_isBalanced_0 : cX5_isBalanced.data.toList.drop 0 = dktX5_isBalanced_0 := by decide +kernel
theorem dksX5_isBalanced_1 : cX5_isBalanced.data.toList.drop 24 = dktX5_isBalanced_1 := dk_seg dksX5_isBalanced_0 24 rfl rfl
theorem dX5_isBalanced_0 : decode cX5_isBalanced 0 = .ok (.aload_n 0, 1) := dk_42 (dk_at dksX5_isBalanced_0 0 rfl rfl)
theorem dX5_isBalanced_1 : decode cX5_isBalanced 1 = .ok (.getfield 7, 3) := dk_180 0 7 (dk_at dksX5_isBalanced_0 1 rfl rfl)
theorem dX5_isBalanced_4 : decode cX5_isBalanced 4 = .ok (.iconst 2, 1) := dk_5 (dk_at dksX5_isBalanced_0 4 rfl rfl)
theorem dX5_isBalanced_5 : decode cX5_isBalanced 5 = .ok (.iaload, 1) := dk_46 (dk_at dksX5_isBalanced_0 5 rfl rfl)
theorem dX5_isBalanced_6 : decode cX5_isBalanced 6 = .ok (.aload_n 0, 1) := dk_42 (dk_at dksX5_isBalanced_0 6 rfl rfl)
theorem dX5_isBalanced_7 : decode cX5_isBalanced 7 = .ok (.getfield 7, 3) := dk_180 0 7 (dk_at dksX5_isBalanced_0 7 rfl rfl)
theorem dX5_isBalanced_10 : decode cX5_isBalanced 10 = .ok (.iconst 3, 1) := dk_6 (dk_at dksX5_isBalanced_0 10 rfl rfl)
theorem dX5_isBalanced_11 : decode cX5_isBalanced 11 = .ok (.iaload, 1) := dk_46 (dk_at dksX5_isBalanced_0 11 rfl rfl)
theorem dX5_isBalanced_12 : decode cX5_isBalanced 12 = .ok (.iadd, 1) := dk_96 (dk_at dksX5_isBalanced_0 12 rfl rfl)
theorem dX5_isBalanced_13 : decode cX5_isBalanced 13 = .ok (.aload_n 0, 1) := dk_42 (dk_at dksX5_isBalanced_0 13 rfl rfl)
theorem dX5_isBalanced_14 : decode cX5_isBalanced 14 = .ok (.getfield 7, 3) := dk_180 0 7 (dk_at dksX5_isBalanced_0 14 rfl rfl)
theorem dX5_isBalanced_17 : decode cX5_isBalanced 17 = .ok (.bipush 14, 2) := dk_16 14 (dk_at dksX5_isBalanced_0 17 rfl rfl)
theorem dX5_isBalanced_19 : decode cX5_isBalanced 19 = .ok (.iaload, 1) := dk_46 (dk_at dksX5_isBalanced_0 19 rfl rfl)
theorem dX5_isBalanced_20 : decode cX5_isBalanced 20 = .ok (.aload_n 0, 1) := dk_42 (dk_at dksX5_isBalanced_0 20 rfl rfl)
theorem dX5_isBalanced_21 : decode cX5_isBalanced 21 = .ok (.getfield 7, 3) := dk_180 0 7 (dk_at dksX5_isBalanced_0 21 rfl rfl)
theorem dX5_isBalanced_24 : decode cX5_isBalanced 24 = .ok (.bipush 15, 2) := dk_16 15 (dk_at dksX5_isBalanced_1 0 rfl rfl)
theorem dX5_isBalanced_26 : decode cX5_isBalanced 26 = .ok (.iaload, 1) := dk_46 (dk_at dksX5_isBalanced_1 2 rfl rfl)
theorem dX5_isBalanced_27 : decode cX5_isBalanced 27 = .ok (.isub, 1) := dk_100 (dk_at dksX5_isBalanced_1 3 rfl rfl)
theorem dX5_isBalanced_28 : decode cX5_isBalanced 28 = .ok (.if_icmp .ne 7, 3) := dk_160 0 7 (dk_at dksX5_isBalanced_1 4 rfl rfl)
theorem dX5_isBalanced_31 : decode cX5_isBalanced 31 = .ok (.iconst 1, 1) := dk_4 (dk_at dksX5_isBalanced_1 7 rfl rfl)
theorem dX5_isBalanced_32 : decode cX5_isBalanced 32 = .ok (.goto 4, 3) := dk_167 0 4 (dk_at dksX5_isBalanced_1 8 rfl rfl)
theorem dX5_isBalanced_35 : decode cX5_isBalanced 35 = .ok (.iconst 0, 1) := dk_3 (dk_at dksX5_isBalanced_1 11 rfl rfl)
theorem dX5_isBalanced_36 : decode cX5_isBalanced 36 = .ok (.ireturn, 1) := dk_172 (dk_at dksX5_isBalanced_1 12 rfl rfl)
abbrev cX5_meanWeight : ByteArray := prog_19_method_79_code
def yX5_meanWeight : MethodName := ⟨RX5, "meanWeight", "()D"⟩
def dkwX5_meanWeight_1 : List UInt8 := [182, 1, 33, 135, 27, 135, 111, 175]
abbrev dktX5_meanWeight_1 : List UInt8 := dkwX5_meanWeight_1 ++ []
def dkwX5_meanWeight_0 : List UInt8 := [42, 180, 0, 7, 5, 46, 42, 180, 0, 7, 6, 46, 96, 60, 27, 154, 0, 7, 14, 167, 0, 12, 42, 3]
abbrev dktX5_meanWeight_0 : List UInt8 := dkwX5_meanWeight_0 ++ dktX5_meanWeight_1
theorem dksX5_meanWeight_0 : cX5_meanWeight.data.toList.drop 0 = dktX5_meanWeight_0 := by decide +kernel
theorem dksX5_meanWeight_1 : cX5_meanWeight.data.toList.drop 24 = dktX5_meanWeight_1 := dk_seg dksX5_meanWeight_0 24 rfl rfl
theorem dX5_meanWeight_0 : decode cX5_meanWeight 0 = .ok (.aload_n 0, 1) := dk_42 (dk_at dksX5_meanWeight_0 0 rfl rfl)
theorem dX5_meanWeight_1 : decode cX5_meanWeight 1 = .ok (.getfield 7, 3) := dk_180 0 7 (dk_at dksX5_meanWeight_0 1 rfl rfl)
theorem dX5_meanWeight_4 : decode cX5_meanWeight 4 = .ok (.iconst 2, 1) := dk_5 (dk_at dksX5_meanWeight_0 4 rfl rfl)
theorem dX5_meanWeight_5 : decode cX5_meanWeight 5 = .ok (.iaload, 1) := dk_46 (dk_at dksX5_meanWeight_0 5 rfl rfl)
theorem dX5_meanWeight_6 : decode cX5_meanWeight 6 = .ok (.aload_n 0, 1) := dk_42 (dk_at dksX5_meanWeight_0 6 rfl rfl)
theorem dX5_meanWeight_7 : decode cX5_meanWeight 7 = .ok (.getfield 7, 3) := dk_180 0 7 (dk_at dksX5_meanWeight_0 7 rfl rfl)
theorem dX5_meanWeight_10 : decode cX5_meanWeight 10 = .ok (.iconst 3, 1) := dk_6 (dk_at dksX5_meanWeight_0 10 rfl rfl)
theorem dX5_meanWeight_11 : decode cX5_meanWeight 11 = .ok (.iaload, 1) := dk_46 (dk_at dksX5_meanWeight_0 11 rfl rfl)
theorem dX5_meanWeight_12 : decode cX5_meanWeight 12 = .ok (.iadd, 1) := dk_96 (dk_at dksX5_meanWeight_0 12 rfl rfl)
theorem dX5_meanWeight_13 : decode cX5_meanWeight 13 = .ok (.istore_n 1, 1) := dk_60 (dk_at dksX5_meanWeight_0 13 rfl rfl)
theorem dX5_meanWeight_14 : decode cX5_meanWeight 14 = .ok (.iload_n 1, 1) := dk_27 (dk_at dksX5_meanWeight_0 14 rfl rfl)
theorem dX5_meanWeight_15 : decode cX5_meanWeight 15 = .ok (.ifCond .ne 7, 3) := dk_154 0 7 (dk_at dksX5_meanWeight_0 15 rfl rfl)
theorem dX5_meanWeight_18 : decode cX5_meanWeight 18 = .ok (.dconst 0, 1) := dk_14 (dk_at dksX5_meanWeight_0 18 rfl rfl)
theorem dX5_meanWeight_19 : decode cX5_meanWeight 19 = .ok (.goto 12, 3) := dk_167 0 12 (dk_at dksX5_meanWeight_0 19 rfl rfl)
theorem dX5_meanWeight_22 : decode cX5_meanWeight 22 = .ok (.aload_n 0, 1) := dk_42 (dk_at dksX5_meanWeight_0 22 rfl rfl)
theorem dX5_meanWeight_23 : decode cX5_meanWeight 23 = .ok (.iconst 0, 1) := dk_3 (dk_at dksX5_meanWeight_0 23 rfl rfl)
theorem dX5_meanWeight_24 : decode cX5_meanWeight 24 = .ok (.invokevirtual 289, 3) := dk_182 1 33 (dk_at dksX5_meanWeight_1 0 rfl rfl)
theorem dX5_meanWeight_27 : decode cX5_meanWeight 27 = .ok (.i2d, 1) := dk_135 (dk_at dksX5_meanWeight_1 3 rfl rfl)
theorem dX5_meanWeight_28 : decode cX5_meanWeight 28 = .ok (.iload_n 1, 1) := dk_27 (dk_at dksX5_meanWeight_1 4 rfl rfl)
theorem dX5_meanWeight_29 : decode cX5_meanWeight 29 = .ok (.i2d, 1) := dk_135 (dk_at dksX5_meanWeight_1 5 rfl rfl)
theorem dX5_meanWeight_30 : decode cX5_meanWeight 30 = .ok (.ddiv, 1) := dk_111 (dk_at dksX5_meanWeight_1 6 rfl rfl)
theorem dX5_meanWeight_31 : decode cX5_meanWeight 31 = .ok (.dreturn, 1) := dk_175 (dk_at dksX5_meanWeight_1 7 rfl rfl)
abbrev cX5_usefulShare : ByteArray := prog_19_method_80_code
def yX5_usefulShare : MethodName := ⟨RX5, "usefulShare", "()F"⟩
def dkwX5_usefulShare_2 : List UInt8 := [167, 255, 214, 27, 134, 42, 180, 0, 7, 3, 46, 42, 180, 0, 7, 4, 46, 96, 134, 110, 174]
abbrev dktX5_usefulShare_2 : List UInt8 := dkwX5_usefulShare_2 ++ []
def dkwX5_usefulShare_1 : List UInt8 := [180, 0, 156, 162, 0, 18, 27, 42, 180, 0, 43, 29, 46, 96, 60, 132, 3, 1, 167, 255, 236, 132, 2, 1]
abbrev dktX5_usefulShare_1 : List UInt8 := dkwX5_usefulShare_1 ++ dktX5_usefulShare_2
def dkwX5_usefulShare_0 : List UInt8 := [3, 60, 3, 61, 28, 5, 162, 0, 43, 42, 28, 182, 0, 170, 42, 182, 0, 173, 3, 62, 29, 42]
abbrev dktX5_usefulShare_0 : List UInt8 := dkwX5_usefulShare_0 ++ dktX5_usefulShare_1
theorem dksX5_usefulShare_0 : cX5_usefulShare.data.toList.drop 0 = dktX5_usefulShare_0 := by decide +kernel
theorem dksX5_usefulShare_1 : cX5_usefulShare.data.toList.drop 22 = dktX5_usefulShare_1 := dk_seg dksX5_usefulShare_0 22 rfl rfl
theorem dksX5_usefulShare_2 : cX5_usefulShare.data.toList.drop 46 = dktX5_usefulShare_2 := dk_seg dksX5_usefulShare_1 24 rfl rfl
theorem dX5_usefulShare_0 : decode cX5_usefulShare 0 = .ok (.iconst 0, 1) := dk_3 (dk_at dksX5_usefulShare_0 0 rfl rfl)
theorem dX5_usefulShare_1 : decode cX5_usefulShare 1 = .ok (.istore_n 1, 1) := dk_60 (dk_at dksX5_usefulShare_0 1 rfl rfl)
theorem dX5_usefulShare_2 : decode cX5_usefulShare 2 = .ok (.iconst 0, 1) := dk_3 (dk_at dksX5_usefulShare_0 2 rfl rfl)
theorem dX5_usefulShare_3 : decode cX5_usefulShare 3 = .ok (.istore_n 2, 1) := dk_61 (dk_at dksX5_usefulShare_0 3 rfl rfl)
theorem dX5_usefulShare_4 : decode cX5_usefulShare 4 = .ok (.iload_n 2, 1) := dk_28 (dk_at dksX5_usefulShare_0 4 rfl rfl)
theorem dX5_usefulShare_5 : decode cX5_usefulShare 5 = .ok (.iconst 2, 1) := dk_5 (dk_at dksX5_usefulShare_0 5 rfl rfl)
theorem dX5_usefulShare_6 : decode cX5_usefulShare 6 = .ok (.if_icmp .ge 43, 3) := dk_162 0 43 (dk_at dksX5_usefulShare_0 6 rfl rfl)
theorem dX5_usefulShare_9 : decode cX5_usefulShare 9 = .ok (.aload_n 0, 1) := dk_42 (dk_at dksX5_usefulShare_0 9 rfl rfl)
theorem dX5_usefulShare_10 : decode cX5_usefulShare 10 = .ok (.iload_n 2, 1) := dk_28 (dk_at dksX5_usefulShare_0 10 rfl rfl)
theorem dX5_usefulShare_11 : decode cX5_usefulShare 11 = .ok (.invokevirtual 170, 3) := dk_182 0 170 (dk_at dksX5_usefulShare_0 11 rfl rfl)
theorem dX5_usefulShare_14 : decode cX5_usefulShare 14 = .ok (.aload_n 0, 1) := dk_42 (dk_at dksX5_usefulShare_0 14 rfl rfl)
theorem dX5_usefulShare_15 : decode cX5_usefulShare 15 = .ok (.invokevirtual 173, 3) := dk_182 0 173 (dk_at dksX5_usefulShare_0 15 rfl rfl)
theorem dX5_usefulShare_18 : decode cX5_usefulShare 18 = .ok (.iconst 0, 1) := dk_3 (dk_at dksX5_usefulShare_0 18 rfl rfl)
theorem dX5_usefulShare_19 : decode cX5_usefulShare 19 = .ok (.istore_n 3, 1) := dk_62 (dk_at dksX5_usefulShare_0 19 rfl rfl)
theorem dX5_usefulShare_20 : decode cX5_usefulShare 20 = .ok (.iload_n 3, 1) := dk_29 (dk_at dksX5_usefulShare_0 20 rfl rfl)
theorem dX5_usefulShare_21 : decode cX5_usefulShare 21 = .ok (.aload_n 0, 1) := dk_42 (dk_at dksX5_usefulShare_0 21 rfl rfl)
theorem dX5_usefulShare_22 : decode cX5_usefulShare 22 = .ok (.getfield 156, 3) := dk_180 0 156 (dk_at dksX5_usefulShare_1 0 rfl rfl)
theorem dX5_usefulShare_25 : decode cX5_usefulShare 25 = .ok (.if_icmp .ge 18, 3) := dk_162 0 18 (dk_at dksX5_usefulShare_1 3 rfl rfl)
theorem dX5_usefulShare_28 : decode cX5_usefulShare 28 = .ok (.iload_n 1, 1) := dk_27 (dk_at dksX5_usefulShare_1 6 rfl rfl)
theorem dX5_usefulShare_29 : decode cX5_usefulShare 29 = .ok (.aload_n 0, 1) := dk_42 (dk_at dksX5_usefulShare_1 7 rfl rfl)
theorem dX5_usefulShare_30 : decode cX5_usefulShare 30 = .ok (.getfield 43, 3) := dk_180 0 43 (dk_at dksX5_usefulShare_1 8 rfl rfl)
theorem dX5_usefulShare_33 : decode cX5_usefulShare 33 = .ok (.iload_n 3, 1) := dk_29 (dk_at dksX5_usefulShare_1 11 rfl rfl)
theorem dX5_usefulShare_34 : decode cX5_usefulShare 34 = .ok (.iaload, 1) := dk_46 (dk_at dksX5_usefulShare_1 12 rfl rfl)
theorem dX5_usefulShare_35 : decode cX5_usefulShare 35 = .ok (.iadd, 1) := dk_96 (dk_at dksX5_usefulShare_1 13 rfl rfl)
theorem dX5_usefulShare_36 : decode cX5_usefulShare 36 = .ok (.istore_n 1, 1) := dk_60 (dk_at dksX5_usefulShare_1 14 rfl rfl)
theorem dX5_usefulShare_37 : decode cX5_usefulShare 37 = .ok (.iinc 3 1, 3) := dk_132 3 1 (dk_at dksX5_usefulShare_1 15 rfl rfl)
theorem dX5_usefulShare_40 : decode cX5_usefulShare 40 = .ok (.goto (-20), 3) := dk_167 255 236 (dk_at dksX5_usefulShare_1 18 rfl rfl)
theorem dX5_usefulShare_43 : decode cX5_usefulShare 43 = .ok (.iinc 2 1, 3) := dk_132 2 1 (dk_at dksX5_usefulShare_1 21 rfl rfl)
theorem dX5_usefulShare_46 : decode cX5_usefulShare 46 = .ok (.goto (-42), 3) := dk_167 255 214 (dk_at dksX5_usefulShare_2 0 rfl rfl)
theorem dX5_usefulShare_49 : decode cX5_usefulShare 49 = .ok (.iload_n 1, 1) := dk_27 (dk_at dksX5_usefulShare_2 3 rfl rfl)
theorem dX5_usefulShare_50 : decode cX5_usefulShare 50 = .ok (.i2f, 1) := dk_134 (dk_at dksX5_usefulShare_2 4 rfl rfl)
theorem dX5_usefulShare_51 : decode cX5_usefulShare 51 = .ok (.aload_n 0, 1) := dk_42 (dk_at dksX5_usefulShare_2 5 rfl rfl)
theorem dX5_usefulShare_52 : decode cX5_usefulShare 52 = .ok (.getfield 7, 3) := dk_180 0 7 (dk_at dksX5_usefulShare_2 6 rfl rfl)
theorem dX5_usefulShare_55 : decode cX5_usefulShare 55 = .ok (.iconst 0, 1) := dk_3 (dk_at dksX5_usefulShare_2 9 rfl rfl)
theorem dX5_usefulShare_56 : decode cX5_usefulShare 56 = .ok (.iaload, 1) := dk_46 (dk_at dksX5_usefulShare_2 10 rfl rfl)
theorem dX5_usefulShare_57 : decode cX5_usefulShare 57 = .ok (.aload_n 0, 1) := dk_42 (dk_at dksX5_usefulShare_2 11 rfl rfl)
theorem dX5_usefulShare_58 : decode cX5_usefulShare 58 = .ok (.getfield 7, 3) := dk_180 0 7 (dk_at dksX5_usefulShare_2 12 rfl rfl)
theorem dX5_usefulShare_61 : decode cX5_usefulShare 61 = .ok (.iconst 1, 1) := dk_4 (dk_at dksX5_usefulShare_2 15 rfl rfl)
theorem dX5_usefulShare_62 : decode cX5_usefulShare 62 = .ok (.iaload, 1) := dk_46 (dk_at dksX5_usefulShare_2 16 rfl rfl)
theorem dX5_usefulShare_63 : decode cX5_usefulShare 63 = .ok (.iadd, 1) := dk_96 (dk_at dksX5_usefulShare_2 17 rfl rfl)
theorem dX5_usefulShare_64 : decode cX5_usefulShare 64 = .ok (.i2f, 1) := dk_134 (dk_at dksX5_usefulShare_2 18 rfl rfl)
theorem dX5_usefulShare_65 : decode cX5_usefulShare 65 = .ok (.fdiv, 1) := dk_110 (dk_at dksX5_usefulShare_2 19 rfl rfl)
theorem dX5_usefulShare_66 : decode cX5_usefulShare 66 = .ok (.freturn, 1) := dk_174 (dk_at dksX5_usefulShare_2 20 rfl rfl)
abbrev cX5_undo : ByteArray := prog_19_method_81_code
def yX5_undo : MethodName := ⟨RX5, "undo", "()I"⟩
def dkwX5_undo_2 : List UInt8 := [96, 46, 79, 132, 1, 1, 167, 255, 225, 42, 180, 0, 92, 172]
abbrev dktX5_undo_2 : List UInt8 := dkwX5_undo_2 ++ []
def dkwX5_undo_1 : List UInt8 := [17, 0, 137, 162, 0, 30, 42, 180, 0, 7, 27, 42, 180, 0, 19, 42, 180, 0, 92, 17, 0, 137, 104, 27]
abbrev dktX5_undo_1 : List UInt8 := dkwX5_undo_1 ++ dktX5_undo_2
def dkwX5_undo_0 : List UInt8 := [42, 180, 0, 92, 154, 0, 6, 16, 241, 172, 42, 89, 180, 0, 92, 4, 100, 181, 0, 92, 3, 60, 27]
abbrev dktX5_undo_0 : List UInt8 := dkwX5_undo_0 ++ dktX5_undo_1
theorem dksX5_undo_0 : cX5_undo.data.toList.drop 0 = dktX5_undo_0 := by decide +kernel
theorem dksX5_undo_1 : cX5_undo.data.toList.drop 23 = dktX5_undo_1 := dk_seg dksX5_undo_0 23 rfl rfl
theorem dksX5_undo_2 : cX5_undo.data.toList.drop 47 = dktX5_undo_2 := dk_seg dksX5_undo_1 24 rfl rfl
theorem dX5_undo_0 : decode cX5_undo 0 = .ok (.aload_n 0, 1) := dk_42 (dk_at dksX5_undo_0 0 rfl rfl)
theorem dX5_undo_1 : decode cX5_undo 1 = .ok (.getfield 92, 3) := dk_180 0 92 (dk_at dksX5_undo_0 1 rfl rfl)
theorem dX5_undo_4 : decode cX5_undo 4 = .ok (.ifCond .ne 6, 3) := dk_154 0 6 (dk_at dksX5_undo_0 4 rfl rfl)
theorem dX5_undo_7 : decode cX5_undo 7 = .ok (.bipush (-15), 2) := dk_16 241 (dk_at dksX5_undo_0 7 rfl rfl)
theorem dX5_undo_9 : decode cX5_undo 9 = .ok (.ireturn, 1) := dk_172 (dk_at dksX5_undo_0 9 rfl rfl)
theorem dX5_undo_10 : decode cX5_undo 10 = .ok (.aload_n 0, 1) := dk_42 (dk_at dksX5_undo_0 10 rfl rfl)
theorem dX5_undo_11 : decode cX5_undo 11 = .ok (.dup, 1) := dk_89 (dk_at dksX5_undo_0 11 rfl rfl)
theorem dX5_undo_12 : decode cX5_undo 12 = .ok (.getfield 92, 3) := dk_180 0 92 (dk_at dksX5_undo_0 12 rfl rfl)
theorem dX5_undo_15 : decode cX5_undo 15 = .ok (.iconst 1, 1) := dk_4 (dk_at dksX5_undo_0 15 rfl rfl)
theorem dX5_undo_16 : decode cX5_undo 16 = .ok (.isub, 1) := dk_100 (dk_at dksX5_undo_0 16 rfl rfl)
theorem dX5_undo_17 : decode cX5_undo 17 = .ok (.putfield 92, 3) := dk_181 0 92 (dk_at dksX5_undo_0 17 rfl rfl)
theorem dX5_undo_20 : decode cX5_undo 20 = .ok (.iconst 0, 1) := dk_3 (dk_at dksX5_undo_0 20 rfl rfl)
theorem dX5_undo_21 : decode cX5_undo 21 = .ok (.istore_n 1, 1) := dk_60 (dk_at dksX5_undo_0 21 rfl rfl)
theorem dX5_undo_22 : decode cX5_undo 22 = .ok (.iload_n 1, 1) := dk_27 (dk_at dksX5_undo_0 22 rfl rfl)
theorem dX5_undo_23 : decode cX5_undo 23 = .ok (.sipush 137, 3) := dk_17 0 137 (dk_at dksX5_undo_1 0 rfl rfl)
theorem dX5_undo_26 : decode cX5_undo 26 = .ok (.if_icmp .ge 30, 3) := dk_162 0 30 (dk_at dksX5_undo_1 3 rfl rfl)
theorem dX5_undo_29 : decode cX5_undo 29 = .ok (.aload_n 0, 1) := dk_42 (dk_at dksX5_undo_1 6 rfl rfl)
theorem dX5_undo_30 : decode cX5_undo 30 = .ok (.getfield 7, 3) := dk_180 0 7 (dk_at dksX5_undo_1 7 rfl rfl)
theorem dX5_undo_33 : decode cX5_undo 33 = .ok (.iload_n 1, 1) := dk_27 (dk_at dksX5_undo_1 10 rfl rfl)
theorem dX5_undo_34 : decode cX5_undo 34 = .ok (.aload_n 0, 1) := dk_42 (dk_at dksX5_undo_1 11 rfl rfl)
theorem dX5_undo_35 : decode cX5_undo 35 = .ok (.getfield 19, 3) := dk_180 0 19 (dk_at dksX5_undo_1 12 rfl rfl)
theorem dX5_undo_38 : decode cX5_undo 38 = .ok (.aload_n 0, 1) := dk_42 (dk_at dksX5_undo_1 15 rfl rfl)
theorem dX5_undo_39 : decode cX5_undo 39 = .ok (.getfield 92, 3) := dk_180 0 92 (dk_at dksX5_undo_1 16 rfl rfl)
theorem dX5_undo_42 : decode cX5_undo 42 = .ok (.sipush 137, 3) := dk_17 0 137 (dk_at dksX5_undo_1 19 rfl rfl)
theorem dX5_undo_45 : decode cX5_undo 45 = .ok (.imul, 1) := dk_104 (dk_at dksX5_undo_1 22 rfl rfl)
theorem dX5_undo_46 : decode cX5_undo 46 = .ok (.iload_n 1, 1) := dk_27 (dk_at dksX5_undo_1 23 rfl rfl)
theorem dX5_undo_47 : decode cX5_undo 47 = .ok (.iadd, 1) := dk_96 (dk_at dksX5_undo_2 0 rfl rfl)
theorem dX5_undo_48 : decode cX5_undo 48 = .ok (.iaload, 1) := dk_46 (dk_at dksX5_undo_2 1 rfl rfl)
theorem dX5_undo_49 : decode cX5_undo 49 = .ok (.iastore, 1) := dk_79 (dk_at dksX5_undo_2 2 rfl rfl)
theorem dX5_undo_50 : decode cX5_undo 50 = .ok (.iinc 1 1, 3) := dk_132 1 1 (dk_at dksX5_undo_2 3 rfl rfl)
theorem dX5_undo_53 : decode cX5_undo 53 = .ok (.goto (-31), 3) := dk_167 255 225 (dk_at dksX5_undo_2 6 rfl rfl)
theorem dX5_undo_56 : decode cX5_undo 56 = .ok (.aload_n 0, 1) := dk_42 (dk_at dksX5_undo_2 9 rfl rfl)
theorem dX5_undo_57 : decode cX5_undo 57 = .ok (.getfield 92, 3) := dk_180 0 92 (dk_at dksX5_undo_2 10 rfl rfl)
theorem dX5_undo_60 : decode cX5_undo 60 = .ok (.ireturn, 1) := dk_172 (dk_at dksX5_undo_2 13 rfl rfl)
abbrev cX5_save : ByteArray := prog_19_method_82_code
def yX5_save : MethodName := ⟨RX5, "save", "()I"⟩
def dkwX5_save_1 : List UInt8 := [180, 0, 7, 6, 46, 96, 172]
abbrev dktX5_save_1 : List UInt8 := dkwX5_save_1 ++ []
def dkwX5_save_0 : List UInt8 := [42, 180, 0, 16, 42, 180, 0, 7, 184, 0, 88, 42, 4, 181, 1, 36, 42, 180, 0, 7, 5, 46, 42]
abbrev dktX5_save_0 : List UInt8 := dkwX5_save_0 ++ dktX5_save_1
theorem dksX5_save_0 : cX5_save.data.toList.drop 0 = dktX5_save_0 := by decide +kernel
theorem dksX5_save_1 : cX5_save.data.toList.drop 23 = dktX5_save_1 := dk_seg dksX5_save_0 23 rfl rfl
theorem dX5_save_0 : decode cX5_save 0 = .ok (.aload_n 0, 1) := dk_42 (dk_at dksX5_save_0 0 rfl rfl)
theorem dX5_save_1 : decode cX5_save 1 = .ok (.getfield 16, 3) := dk_180 0 16 (dk_at dksX5_save_0 1 rfl rfl)
theorem dX5_save_4 : decode cX5_save 4 = .ok (.aload_n 0, 1) := dk_42 (dk_at dksX5_save_0 4 rfl rfl)
theorem dX5_save_5 : decode cX5_save 5 = .ok (.getfield 7, 3) := dk_180 0 7 (dk_at dksX5_save_0 5 rfl rfl)
theorem dX5_save_8 : decode cX5_save 8 = .ok (.invokestatic 88, 3) := dk_184 0 88 (dk_at dksX5_save_0 8 rfl rfl)
theorem dX5_save_11 : decode cX5_save 11 = .ok (.aload_n 0, 1) := dk_42 (dk_at dksX5_save_0 11 rfl rfl)
theorem dX5_save_12 : decode cX5_save 12 = .ok (.iconst 1, 1) := dk_4 (dk_at dksX5_save_0 12 rfl rfl)
theorem dX5_save_13 : decode cX5_save 13 = .ok (.putfield 292, 3) := dk_181 1 36 (dk_at dksX5_save_0 13 rfl rfl)
theorem dX5_save_16 : decode cX5_save 16 = .ok (.aload_n 0, 1) := dk_42 (dk_at dksX5_save_0 16 rfl rfl)
theorem dX5_save_17 : decode cX5_save 17 = .ok (.getfield 7, 3) := dk_180 0 7 (dk_at dksX5_save_0 17 rfl rfl)
theorem dX5_save_20 : decode cX5_save 20 = .ok (.iconst 2, 1) := dk_5 (dk_at dksX5_save_0 20 rfl rfl)
theorem dX5_save_21 : decode cX5_save 21 = .ok (.iaload, 1) := dk_46 (dk_at dksX5_save_0 21 rfl rfl)
theorem dX5_save_22 : decode cX5_save 22 = .ok (.aload_n 0, 1) := dk_42 (dk_at dksX5_save_0 22 rfl rfl)
theorem dX5_save_23 : decode cX5_save 23 = .ok (.getfield 7, 3) := dk_180 0 7 (dk_at dksX5_save_1 0 rfl rfl)
theorem dX5_save_26 : decode cX5_save 26 = .ok (.iconst 3, 1) := dk_6 (dk_at dksX5_save_1 3 rfl rfl)
theorem dX5_save_27 : decode cX5_save 27 = .ok (.iaload, 1) := dk_46 (dk_at dksX5_save_1 4 rfl rfl)
theorem dX5_save_28 : decode cX5_save 28 = .ok (.iadd, 1) := dk_96 (dk_at dksX5_save_1 5 rfl rfl)
theorem dX5_save_29 : decode cX5_save 29 = .ok (.ireturn, 1) := dk_172 (dk_at dksX5_save_1 6 rfl rfl)
abbrev cX5_restore : ByteArray := prog_19_method_83_code
def yX5_restore : MethodName := ⟨RX5, "restore", "()I"⟩
def dkwX5_restore_1 : List UInt8 := [181, 0, 92, 42, 180, 0, 7, 5, 46, 42, 180, 0, 7, 6, 46, 96, 172]
abbrev dktX5_restore_1 : List UInt8 := dkwX5_restore_1 ++ []
def dkwX5_restore_0 : List UInt8 := [42, 180, 1, 36, 154, 0, 6, 16, 241, 172, 42, 180, 0, 7, 42, 180, 0, 16, 184, 0, 88, 42, 3]
abbrev dktX5_restore_0 : List UInt8 := dkwX5_restore_0 ++ dktX5_restore_1
theorem dksX5_restore_0 : cX5_restore.data.toList.drop 0 = dktX5_restore_0 := by decide +kernel
theorem dksX5_restore_1 : cX5_restore.data.toList.drop 23 = dktX5_restore_1 := dk_seg dksX5_restore_0 23 rfl rfl
theorem dX5_restore_0 : decode cX5_restore 0 = .ok (.aload_n 0, 1) := dk_42 (dk_at dksX5_restore_0 0 rfl rfl)
theorem dX5_restore_1 : decode cX5_restore 1 = .ok (.getfield 292, 3) := dk_180 1 36 (dk_at dksX5_restore_0 1 rfl rfl)
theorem dX5_restore_4 : decode cX5_restore 4 = .ok (.ifCond .ne 6, 3) := dk_154 0 6 (dk_at dksX5_restore_0 4 rfl rfl)
theorem dX5_restore_7 : decode cX5_restore 7 = .ok (.bipush (-15), 2) := dk_16 241 (dk_at dksX5_restore_0 7 rfl rfl)
theorem dX5_restore_9 : decode cX5_restore 9 = .ok (.ireturn, 1) := dk_172 (dk_at dksX5_restore_0 9 rfl rfl)
theorem dX5_restore_10 : decode cX5_restore 10 = .ok (.aload_n 0, 1) := dk_42 (dk_at dksX5_restore_0 10 rfl rfl)
theorem dX5_restore_11 : decode cX5_restore 11 = .ok (.getfield 7, 3) := dk_180 0 7 (dk_at dksX5_restore_0 11 rfl rfl)
theorem dX5_restore_14 : decode cX5_restore 14 = .ok (.aload_n 0, 1) := dk_42 (dk_at dksX5_restore_0 14 rfl rfl)
theorem dX5_restore_15 : decode cX5_restore 15 = .ok (.getfield 16, 3) := dk_180 0 16 (dk_at dksX5_restore_0 15 rfl rfl)
theorem dX5_restore_18 : decode cX5_restore 18 = .ok (.invokestatic 88, 3) := dk_184 0 88 (dk_at dksX5_restore_0 18 rfl rfl)
theorem dX5_restore_21 : decode cX5_restore 21 = .ok (.aload_n 0, 1) := dk_42 (dk_at dksX5_restore_0 21 rfl rfl)
theorem dX5_restore_22 : decode cX5_restore 22 = .ok (.iconst 0, 1) := dk_3 (dk_at dksX5_restore_0 22 rfl rfl)
theorem dX5_restore_23 : decode cX5_restore 23 = .ok (.putfield 92, 3) := dk_181 0 92 (dk_at dksX5_restore_1 0 rfl rfl)
theorem dX5_restore_26 : decode cX5_restore 26 = .ok (.aload_n 0, 1) := dk_42 (dk_at dksX5_restore_1 3 rfl rfl)
theorem dX5_restore_27 : decode cX5_restore 27 = .ok (.getfield 7, 3) := dk_180 0 7 (dk_at dksX5_restore_1 4 rfl rfl)
theorem dX5_restore_30 : decode cX5_restore 30 = .ok (.iconst 2, 1) := dk_5 (dk_at dksX5_restore_1 7 rfl rfl)
theorem dX5_restore_31 : decode cX5_restore 31 = .ok (.iaload, 1) := dk_46 (dk_at dksX5_restore_1 8 rfl rfl)
theorem dX5_restore_32 : decode cX5_restore 32 = .ok (.aload_n 0, 1) := dk_42 (dk_at dksX5_restore_1 9 rfl rfl)
theorem dX5_restore_33 : decode cX5_restore 33 = .ok (.getfield 7, 3) := dk_180 0 7 (dk_at dksX5_restore_1 10 rfl rfl)
theorem dX5_restore_36 : decode cX5_restore 36 = .ok (.iconst 3, 1) := dk_6 (dk_at dksX5_restore_1 13 rfl rfl)
theorem dX5_restore_37 : decode cX5_restore 37 = .ok (.iaload, 1) := dk_46 (dk_at dksX5_restore_1 14 rfl rfl)
theorem dX5_restore_38 : decode cX5_restore 38 = .ok (.iadd, 1) := dk_96 (dk_at dksX5_restore_1 15 rfl rfl)
theorem dX5_restore_39 : decode cX5_restore 39 = .ok (.ireturn, 1) := dk_172 (dk_at dksX5_restore_1 16 rfl rfl)
theorem q90 : (Jvm.Cond.initialized "ChantRulesModel") ∈ lw_all := lw_g (lw_at lw_m1 15 rfl) rfl
theorem q449 : (Jvm.Cond.selects "ChantRulesModel" ({ cls := "java/lang/Object", name := "getClass", desc := "()Ljava/lang/Class;" } : Jvm.MethodName) ({ cls := "java/lang/Object", name := "getClass", desc := "()Ljava/lang/Class;" } : Jvm.MethodName)) ∈ lw_all := lw_g (lw_at lw_m2 134 rfl) rfl
theorem q1897 : (Jvm.Cond.instantiable "ChantRulesModel" (37 : Nat)) ∈ lw_all := lw_g (lw_at lw_m8 142 rfl) rfl
theorem q1899 : (Jvm.Cond.instanceMethod ({ cls := "ChantRulesModel", name := "<init>", desc := "()V" } : Jvm.MethodName)) ∈ lw_all := lw_g (lw_at lw_m8 144 rfl) rfl
theorem q1900 : (Jvm.Cond.code ({ cls := "ChantRulesModel", name := "<init>", desc := "()V" } : Jvm.MethodName) prog_19_method_1_code (2 : Nat) (Option.none : Option Jvm.ClassFile.FieldType)) ∈ lw_all := lw_g (lw_at lw_m8 145 rfl) rfl
theorem q1901 : (Jvm.Cond.methodLink "ChantRulesModel" (1 : Nat) ({ cls := "java/lang/Object", name := "<init>", desc := "()V" } : Jvm.MethodName)) ∈ lw_all := lw_g (lw_at lw_m8 146 rfl) rfl
theorem q1902 : (Jvm.Cond.constant "ChantRulesModel" (58 : Nat) (51750 : Int32)) ∈ lw_all := lw_g (lw_at lw_m8 147 rfl) rfl
theorem q1903 : (Jvm.Cond.fieldLink "ChantRulesModel" (71 : Nat) "ChantRulesModel" "fails" "I") ∈ lw_all := lw_g (lw_at lw_m8 148 rfl) rfl
theorem q1904 : (Jvm.Cond.fieldLink "ChantRulesModel" (92 : Nat) "ChantRulesModel" "changes" "I") ∈ lw_all := lw_g (lw_at lw_m8 149 rfl) rfl
theorem q1905 : (Jvm.Cond.fieldLink "ChantRulesModel" (75 : Nat) "ChantRulesModel" "why" "I") ∈ lw_all := lw_g (lw_at lw_m8 150 rfl) rfl
theorem q1906 : (Jvm.Cond.fieldLink "ChantRulesModel" (78 : Nat) "ChantRulesModel" "detail" "I") ∈ lw_all := lw_g (lw_at lw_m8 151 rfl) rfl
theorem q1907 : (Jvm.Cond.fieldLink "ChantRulesModel" (81 : Nat) "ChantRulesModel" "behindWhy" "I") ∈ lw_all := lw_g (lw_at lw_m8 152 rfl) rfl
theorem q1908 : (Jvm.Cond.fieldLink "ChantRulesModel" (283 : Nat) "ChantRulesModel" "behindDetail" "I") ∈ lw_all := lw_g (lw_at lw_m8 153 rfl) rfl
theorem q1909 : (Jvm.Cond.fieldLink "ChantRulesModel" (292 : Nat) "ChantRulesModel" "isSaved" "Z") ∈ lw_all := lw_g (lw_at lw_m8 154 rfl) rfl
theorem q1910 : (Jvm.Cond.fieldLink "ChantRulesModel" (7 : Nat) "ChantRulesModel" "v" "[I") ∈ lw_all := lw_g (lw_at lw_m8 155 rfl) rfl
theorem q1911 : (Jvm.Cond.fieldLink "ChantRulesModel" (13 : Nat) "ChantRulesModel" "before" "[I") ∈ lw_all := lw_g (lw_at lw_m8 156 rfl) rfl
theorem q1912 : (Jvm.Cond.fieldLink "ChantRulesModel" (16 : Nat) "ChantRulesModel" "saved" "[I") ∈ lw_all := lw_g (lw_at lw_m8 157 rfl) rfl
theorem q1913 : (Jvm.Cond.fieldLink "ChantRulesModel" (19 : Nat) "ChantRulesModel" "past" "[I") ∈ lw_all := lw_g (lw_at lw_m8 158 rfl) rfl
theorem q1914 : (Jvm.Cond.fieldLink "ChantRulesModel" (22 : Nat) "ChantRulesModel" "from" "[I") ∈ lw_all := lw_g (lw_at lw_m8 159 rfl) rfl
theorem q1915 : (Jvm.Cond.fieldLink "ChantRulesModel" (25 : Nat) "ChantRulesModel" "to" "[I") ∈ lw_all := lw_g (lw_at lw_m8 160 rfl) rfl
theorem q1916 : (Jvm.Cond.fieldLink "ChantRulesModel" (28 : Nat) "ChantRulesModel" "hears" "[I") ∈ lw_all := lw_g (lw_at lw_m8 161 rfl) rfl
theorem q1917 : (Jvm.Cond.fieldLink "ChantRulesModel" (31 : Nat) "ChantRulesModel" "sings" "[I") ∈ lw_all := lw_g (lw_at lw_m8 162 rfl) rfl
theorem q1918 : (Jvm.Cond.fieldLink "ChantRulesModel" (34 : Nat) "ChantRulesModel" "weight" "[I") ∈ lw_all := lw_g (lw_at lw_m8 163 rfl) rfl
theorem q1919 : (Jvm.Cond.fieldLink "ChantRulesModel" (37 : Nat) "ChantRulesModel" "endOf" "[I") ∈ lw_all := lw_g (lw_at lw_m8 164 rfl) rfl
theorem q1920 : (Jvm.Cond.fieldLink "ChantRulesModel" (153 : Nat) "ChantRulesModel" "many" "I") ∈ lw_all := lw_g (lw_at lw_m8 165 rfl) rfl
theorem q1921 : (Jvm.Cond.fieldLink "ChantRulesModel" (156 : Nat) "ChantRulesModel" "states" "I") ∈ lw_all := lw_g (lw_at lw_m8 166 rfl) rfl
theorem q1922 : (Jvm.Cond.fieldLink "ChantRulesModel" (40 : Nat) "ChantRulesModel" "reached" "[I") ∈ lw_all := lw_g (lw_at lw_m8 167 rfl) rfl
theorem q1923 : (Jvm.Cond.fieldLink "ChantRulesModel" (43 : Nat) "ChantRulesModel" "useful" "[I") ∈ lw_all := lw_g (lw_at lw_m8 168 rfl) rfl
theorem q1924 : (Jvm.Cond.fieldLink "ChantRulesModel" (46 : Nat) "ChantRulesModel" "text" "[I") ∈ lw_all := lw_g (lw_at lw_m8 169 rfl) rfl
theorem q1925 : (Jvm.Cond.fieldLink "ChantRulesModel" (49 : Nat) "ChantRulesModel" "least" "[I") ∈ lw_all := lw_g (lw_at lw_m8 170 rfl) rfl
theorem q1926 : (Jvm.Cond.fieldLink "ChantRulesModel" (52 : Nat) "ChantRulesModel" "letters" "[I") ∈ lw_all := lw_g (lw_at lw_m8 171 rfl) rfl
theorem q1927 : (Jvm.Cond.fieldLink "ChantRulesModel" (55 : Nat) "ChantRulesModel" "isDone" "[I") ∈ lw_all := lw_g (lw_at lw_m8 172 rfl) rfl
theorem q1928 : (Jvm.Cond.fieldLink "ChantRulesModel" (59 : Nat) "ChantRulesModel" "song" "[I") ∈ lw_all := lw_g (lw_at lw_m8 173 rfl) rfl
theorem q1929 : (Jvm.Cond.fieldLink "ChantRulesModel" (183 : Nat) "ChantRulesModel" "textN" "I") ∈ lw_all := lw_g (lw_at lw_m8 174 rfl) rfl
theorem q1930 : (Jvm.Cond.fieldLink "ChantRulesModel" (200 : Nat) "ChantRulesModel" "bestWeight" "I") ∈ lw_all := lw_g (lw_at lw_m8 175 rfl) rfl
theorem q1931 : (Jvm.Cond.fieldLink "ChantRulesModel" (193 : Nat) "ChantRulesModel" "best" "I") ∈ lw_all := lw_g (lw_at lw_m8 176 rfl) rfl
theorem q1932 : (Jvm.Cond.fieldLink "ChantRulesModel" (62 : Nat) "ChantRulesModel" "line" "[I") ∈ lw_all := lw_g (lw_at lw_m8 177 rfl) rfl
theorem q1933 : (Jvm.Cond.fieldLink "ChantRulesModel" (207 : Nat) "ChantRulesModel" "lineN" "I") ∈ lw_all := lw_g (lw_at lw_m8 178 rfl) rfl
theorem q1934 : (Jvm.Cond.fieldLink "ChantRulesModel" (65 : Nat) "ChantRulesModel" "far" "[I") ∈ lw_all := lw_g (lw_at lw_m8 179 rfl) rfl
theorem q1935 : (Jvm.Cond.fieldLink "ChantRulesModel" (68 : Nat) "ChantRulesModel" "told" "[I") ∈ lw_all := lw_g (lw_at lw_m8 180 rfl) rfl
theorem q1936 : (Jvm.Cond.fieldLink "ChantRulesModel" (240 : Nat) "ChantRulesModel" "here" "I") ∈ lw_all := lw_g (lw_at lw_m8 181 rfl) rfl
theorem q1937 : (Jvm.Cond.fieldLink "ChantRulesModel" (243 : Nat) "ChantRulesModel" "end" "I") ∈ lw_all := lw_g (lw_at lw_m8 182 rfl) rfl
theorem q1938 : (Jvm.Cond.fieldLink "ChantRulesModel" (246 : Nat) "ChantRulesModel" "isWrong" "Z") ∈ lw_all := lw_g (lw_at lw_m8 183 rfl) rfl
theorem q1939 : (Jvm.Cond.fieldLink "ChantRulesModel" (271 : Nat) "ChantRulesModel" "isDoing" "Z") ∈ lw_all := lw_g (lw_at lw_m8 184 rfl) rfl
theorem q1940 : (Jvm.Cond.lays "ChantRulesModel" "ChantRulesModel" "fails" "I") ∈ lw_all := lw_g (lw_at lw_m8 185 rfl) rfl
theorem q1941 : (Jvm.Cond.soleField "ChantRulesModel" "fails") ∈ lw_all := lw_g (lw_at lw_m8 186 rfl) rfl
theorem q1942 : (Jvm.Cond.lays "ChantRulesModel" "ChantRulesModel" "changes" "I") ∈ lw_all := lw_g (lw_at lw_m8 187 rfl) rfl
theorem q1943 : (Jvm.Cond.soleField "ChantRulesModel" "changes") ∈ lw_all := lw_g (lw_at lw_m8 188 rfl) rfl
theorem q1944 : (Jvm.Cond.lays "ChantRulesModel" "ChantRulesModel" "why" "I") ∈ lw_all := lw_g (lw_at lw_m8 189 rfl) rfl
theorem q1945 : (Jvm.Cond.soleField "ChantRulesModel" "why") ∈ lw_all := lw_g (lw_at lw_m8 190 rfl) rfl
theorem q1946 : (Jvm.Cond.lays "ChantRulesModel" "ChantRulesModel" "detail" "I") ∈ lw_all := lw_g (lw_at lw_m8 191 rfl) rfl
theorem q1947 : (Jvm.Cond.soleField "ChantRulesModel" "detail") ∈ lw_all := lw_g (lw_at lw_m8 192 rfl) rfl
theorem q1948 : (Jvm.Cond.lays "ChantRulesModel" "ChantRulesModel" "behindWhy" "I") ∈ lw_all := lw_g (lw_at lw_m8 193 rfl) rfl
theorem q1949 : (Jvm.Cond.soleField "ChantRulesModel" "behindWhy") ∈ lw_all := lw_g (lw_at lw_m8 194 rfl) rfl
theorem q1950 : (Jvm.Cond.lays "ChantRulesModel" "ChantRulesModel" "behindDetail" "I") ∈ lw_all := lw_g (lw_at lw_m8 195 rfl) rfl
theorem q1951 : (Jvm.Cond.soleField "ChantRulesModel" "behindDetail") ∈ lw_all := lw_g (lw_at lw_m8 196 rfl) rfl
theorem q1952 : (Jvm.Cond.lays "ChantRulesModel" "ChantRulesModel" "isSaved" "Z") ∈ lw_all := lw_g (lw_at lw_m8 197 rfl) rfl
theorem q1953 : (Jvm.Cond.soleField "ChantRulesModel" "isSaved") ∈ lw_all := lw_g (lw_at lw_m8 198 rfl) rfl
theorem q1954 : (Jvm.Cond.laysFinal "ChantRulesModel" "ChantRulesModel" "v" "[I") ∈ lw_all := lw_g (lw_at lw_m8 199 rfl) rfl
theorem q1955 : (Jvm.Cond.soleField "ChantRulesModel" "v") ∈ lw_all := lw_g (lw_at lw_m8 200 rfl) rfl
theorem q1956 : (Jvm.Cond.laysFinal "ChantRulesModel" "ChantRulesModel" "before" "[I") ∈ lw_all := lw_g (lw_at lw_m8 201 rfl) rfl
theorem q1957 : (Jvm.Cond.soleField "ChantRulesModel" "before") ∈ lw_all := lw_g (lw_at lw_m8 202 rfl) rfl
theorem q1958 : (Jvm.Cond.laysFinal "ChantRulesModel" "ChantRulesModel" "saved" "[I") ∈ lw_all := lw_g (lw_at lw_m8 203 rfl) rfl
theorem q1959 : (Jvm.Cond.soleField "ChantRulesModel" "saved") ∈ lw_all := lw_g (lw_at lw_m8 204 rfl) rfl
theorem q1960 : (Jvm.Cond.laysFinal "ChantRulesModel" "ChantRulesModel" "past" "[I") ∈ lw_all := lw_g (lw_at lw_m8 205 rfl) rfl
theorem q1961 : (Jvm.Cond.soleField "ChantRulesModel" "past") ∈ lw_all := lw_g (lw_at lw_m8 206 rfl) rfl
theorem q1962 : (Jvm.Cond.laysFinal "ChantRulesModel" "ChantRulesModel" "from" "[I") ∈ lw_all := lw_g (lw_at lw_m8 207 rfl) rfl
theorem q1963 : (Jvm.Cond.soleField "ChantRulesModel" "from") ∈ lw_all := lw_g (lw_at lw_m8 208 rfl) rfl
theorem q1964 : (Jvm.Cond.laysFinal "ChantRulesModel" "ChantRulesModel" "to" "[I") ∈ lw_all := lw_g (lw_at lw_m8 209 rfl) rfl
theorem q1965 : (Jvm.Cond.soleField "ChantRulesModel" "to") ∈ lw_all := lw_g (lw_at lw_m8 210 rfl) rfl
theorem q1966 : (Jvm.Cond.laysFinal "ChantRulesModel" "ChantRulesModel" "hears" "[I") ∈ lw_all := lw_g (lw_at lw_m8 211 rfl) rfl
theorem q1967 : (Jvm.Cond.soleField "ChantRulesModel" "hears") ∈ lw_all := lw_g (lw_at lw_m8 212 rfl) rfl
theorem q1968 : (Jvm.Cond.laysFinal "ChantRulesModel" "ChantRulesModel" "sings" "[I") ∈ lw_all := lw_g (lw_at lw_m8 213 rfl) rfl
theorem q1969 : (Jvm.Cond.soleField "ChantRulesModel" "sings") ∈ lw_all := lw_g (lw_at lw_m8 214 rfl) rfl
theorem q1970 : (Jvm.Cond.laysFinal "ChantRulesModel" "ChantRulesModel" "weight" "[I") ∈ lw_all := lw_g (lw_at lw_m8 215 rfl) rfl
theorem q1971 : (Jvm.Cond.soleField "ChantRulesModel" "weight") ∈ lw_all := lw_g (lw_at lw_m8 216 rfl) rfl
theorem q1972 : (Jvm.Cond.laysFinal "ChantRulesModel" "ChantRulesModel" "endOf" "[I") ∈ lw_all := lw_g (lw_at lw_m8 217 rfl) rfl
theorem q1973 : (Jvm.Cond.soleField "ChantRulesModel" "endOf") ∈ lw_all := lw_g (lw_at lw_m8 218 rfl) rfl
theorem q1974 : (Jvm.Cond.lays "ChantRulesModel" "ChantRulesModel" "many" "I") ∈ lw_all := lw_g (lw_at lw_m8 219 rfl) rfl
theorem q1975 : (Jvm.Cond.soleField "ChantRulesModel" "many") ∈ lw_all := lw_g (lw_at lw_m8 220 rfl) rfl
theorem q1976 : (Jvm.Cond.lays "ChantRulesModel" "ChantRulesModel" "states" "I") ∈ lw_all := lw_g (lw_at lw_m8 221 rfl) rfl
theorem q1977 : (Jvm.Cond.soleField "ChantRulesModel" "states") ∈ lw_all := lw_g (lw_at lw_m8 222 rfl) rfl
theorem q1978 : (Jvm.Cond.laysFinal "ChantRulesModel" "ChantRulesModel" "reached" "[I") ∈ lw_all := lw_g (lw_at lw_m8 223 rfl) rfl
theorem q1979 : (Jvm.Cond.soleField "ChantRulesModel" "reached") ∈ lw_all := lw_g (lw_at lw_m8 224 rfl) rfl
theorem q1980 : (Jvm.Cond.laysFinal "ChantRulesModel" "ChantRulesModel" "useful" "[I") ∈ lw_all := lw_g (lw_at lw_m8 225 rfl) rfl
theorem q1981 : (Jvm.Cond.soleField "ChantRulesModel" "useful") ∈ lw_all := lw_g (lw_at lw_m8 226 rfl) rfl
theorem q1982 : (Jvm.Cond.laysFinal "ChantRulesModel" "ChantRulesModel" "text" "[I") ∈ lw_all := lw_g (lw_at lw_m8 227 rfl) rfl
theorem q1983 : (Jvm.Cond.soleField "ChantRulesModel" "text") ∈ lw_all := lw_g (lw_at lw_m8 228 rfl) rfl
theorem q1984 : (Jvm.Cond.laysFinal "ChantRulesModel" "ChantRulesModel" "least" "[I") ∈ lw_all := lw_g (lw_at lw_m8 229 rfl) rfl
theorem q1985 : (Jvm.Cond.soleField "ChantRulesModel" "least") ∈ lw_all := lw_g (lw_at lw_m8 230 rfl) rfl
theorem q1986 : (Jvm.Cond.laysFinal "ChantRulesModel" "ChantRulesModel" "letters" "[I") ∈ lw_all := lw_g (lw_at lw_m8 231 rfl) rfl
theorem q1987 : (Jvm.Cond.soleField "ChantRulesModel" "letters") ∈ lw_all := lw_g (lw_at lw_m8 232 rfl) rfl
theorem q1988 : (Jvm.Cond.laysFinal "ChantRulesModel" "ChantRulesModel" "isDone" "[I") ∈ lw_all := lw_g (lw_at lw_m8 233 rfl) rfl
theorem q1989 : (Jvm.Cond.soleField "ChantRulesModel" "isDone") ∈ lw_all := lw_g (lw_at lw_m8 234 rfl) rfl
theorem q1990 : (Jvm.Cond.laysFinal "ChantRulesModel" "ChantRulesModel" "song" "[I") ∈ lw_all := lw_g (lw_at lw_m8 235 rfl) rfl
theorem q1991 : (Jvm.Cond.soleField "ChantRulesModel" "song") ∈ lw_all := lw_g (lw_at lw_m8 236 rfl) rfl
theorem q1992 : (Jvm.Cond.lays "ChantRulesModel" "ChantRulesModel" "textN" "I") ∈ lw_all := lw_g (lw_at lw_m8 237 rfl) rfl
theorem q1993 : (Jvm.Cond.soleField "ChantRulesModel" "textN") ∈ lw_all := lw_g (lw_at lw_m8 238 rfl) rfl
theorem q1994 : (Jvm.Cond.lays "ChantRulesModel" "ChantRulesModel" "bestWeight" "I") ∈ lw_all := lw_g (lw_at lw_m8 239 rfl) rfl
theorem q1995 : (Jvm.Cond.soleField "ChantRulesModel" "bestWeight") ∈ lw_all := lw_g (lw_at lw_m9 0 rfl) rfl
theorem q1996 : (Jvm.Cond.lays "ChantRulesModel" "ChantRulesModel" "best" "I") ∈ lw_all := lw_g (lw_at lw_m9 1 rfl) rfl
theorem q1997 : (Jvm.Cond.soleField "ChantRulesModel" "best") ∈ lw_all := lw_g (lw_at lw_m9 2 rfl) rfl
theorem q1998 : (Jvm.Cond.laysFinal "ChantRulesModel" "ChantRulesModel" "line" "[I") ∈ lw_all := lw_g (lw_at lw_m9 3 rfl) rfl
theorem q1999 : (Jvm.Cond.soleField "ChantRulesModel" "line") ∈ lw_all := lw_g (lw_at lw_m9 4 rfl) rfl
theorem q2000 : (Jvm.Cond.lays "ChantRulesModel" "ChantRulesModel" "lineN" "I") ∈ lw_all := lw_g (lw_at lw_m9 5 rfl) rfl
theorem q2001 : (Jvm.Cond.soleField "ChantRulesModel" "lineN") ∈ lw_all := lw_g (lw_at lw_m9 6 rfl) rfl
theorem q2002 : (Jvm.Cond.laysFinal "ChantRulesModel" "ChantRulesModel" "far" "[I") ∈ lw_all := lw_g (lw_at lw_m9 7 rfl) rfl
theorem q2003 : (Jvm.Cond.soleField "ChantRulesModel" "far") ∈ lw_all := lw_g (lw_at lw_m9 8 rfl) rfl
theorem q2004 : (Jvm.Cond.laysFinal "ChantRulesModel" "ChantRulesModel" "told" "[I") ∈ lw_all := lw_g (lw_at lw_m9 9 rfl) rfl
theorem q2005 : (Jvm.Cond.soleField "ChantRulesModel" "told") ∈ lw_all := lw_g (lw_at lw_m9 10 rfl) rfl
theorem q2006 : (Jvm.Cond.lays "ChantRulesModel" "ChantRulesModel" "here" "I") ∈ lw_all := lw_g (lw_at lw_m9 11 rfl) rfl
theorem q2007 : (Jvm.Cond.soleField "ChantRulesModel" "here") ∈ lw_all := lw_g (lw_at lw_m9 12 rfl) rfl
theorem q2008 : (Jvm.Cond.lays "ChantRulesModel" "ChantRulesModel" "end" "I") ∈ lw_all := lw_g (lw_at lw_m9 13 rfl) rfl
theorem q2009 : (Jvm.Cond.soleField "ChantRulesModel" "end") ∈ lw_all := lw_g (lw_at lw_m9 14 rfl) rfl
theorem q2010 : (Jvm.Cond.lays "ChantRulesModel" "ChantRulesModel" "isWrong" "Z") ∈ lw_all := lw_g (lw_at lw_m9 15 rfl) rfl
theorem q2011 : (Jvm.Cond.soleField "ChantRulesModel" "isWrong") ∈ lw_all := lw_g (lw_at lw_m9 16 rfl) rfl
theorem q2012 : (Jvm.Cond.lays "ChantRulesModel" "ChantRulesModel" "isDoing" "Z") ∈ lw_all := lw_g (lw_at lw_m9 17 rfl) rfl
theorem q2013 : (Jvm.Cond.soleField "ChantRulesModel" "isDoing") ∈ lw_all := lw_g (lw_at lw_m9 18 rfl) rfl
theorem q2014 : (Jvm.Cond.superclass "ChantRulesModel" "java/lang/Object") ∈ lw_all := lw_g (lw_at lw_m9 19 rfl) rfl
theorem q2016 : (Jvm.Cond.instanceMethod ({ cls := "ChantRulesModel", name := "state", desc := "(I)I" } : Jvm.MethodName)) ∈ lw_all := lw_g (lw_at lw_m9 21 rfl) rfl
theorem q2017 : (Jvm.Cond.selects "ChantRulesModel" ({ cls := "ChantRulesModel", name := "state", desc := "(I)I" } : Jvm.MethodName) ({ cls := "ChantRulesModel", name := "state", desc := "(I)I" } : Jvm.MethodName)) ∈ lw_all := lw_g (lw_at lw_m9 22 rfl) rfl
theorem q2018 : (Jvm.Cond.code ({ cls := "ChantRulesModel", name := "state", desc := "(I)I" } : Jvm.MethodName) prog_19_method_14_code (2 : Nat) (Option.some Jvm.ClassFile.FieldType.int)) ∈ lw_all := lw_g (lw_at lw_m9 23 rfl) rfl
theorem q2019 : (Jvm.Cond.methodLink "ChantRulesModel" (110 : Nat) ({ cls := "ChantRulesModel", name := "begins", desc := "()V" } : Jvm.MethodName)) ∈ lw_all := lw_g (lw_at lw_m9 24 rfl) rfl
theorem q2020 : (Jvm.Cond.privateMethod ({ cls := "ChantRulesModel", name := "begins", desc := "()V" } : Jvm.MethodName)) ∈ lw_tbl := lw_at lw_m9 25 rfl
theorem q2021 : (Jvm.Cond.instanceMethod ({ cls := "ChantRulesModel", name := "begins", desc := "()V" } : Jvm.MethodName)) ∈ lw_all := lw_g (lw_at lw_m9 26 rfl) rfl
theorem q2022 : (Jvm.Cond.code ({ cls := "ChantRulesModel", name := "begins", desc := "()V" } : Jvm.MethodName) prog_19_method_6_code (1 : Nat) (Option.none : Option Jvm.ClassFile.FieldType)) ∈ lw_all := lw_g (lw_at lw_m9 27 rfl) rfl
theorem q2023 : (Jvm.Cond.methodLink "ChantRulesModel" (88 : Nat) ({ cls := "ChantRulesModel", name := "lays", desc := "([I[I)V" } : Jvm.MethodName)) ∈ lw_all := lw_g (lw_at lw_m9 28 rfl) rfl
theorem q2024 : (Jvm.Cond.static ({ cls := "ChantRulesModel", name := "lays", desc := "([I[I)V" } : Jvm.MethodName)) ∈ lw_all := lw_g (lw_at lw_m9 29 rfl) rfl
theorem q2025 : (Jvm.Cond.code ({ cls := "ChantRulesModel", name := "lays", desc := "([I[I)V" } : Jvm.MethodName) prog_19_method_5_code (3 : Nat) (Option.none : Option Jvm.ClassFile.FieldType)) ∈ lw_all := lw_g (lw_at lw_m9 30 rfl) rfl
theorem q2026 : (Jvm.Cond.methodLink "ChantRulesModel" (113 : Nat) ({ cls := "ChantRulesModel", name := "comes", desc := "(I)I" } : Jvm.MethodName)) ∈ lw_all := lw_g (lw_at lw_m9 31 rfl) rfl
theorem q2027 : (Jvm.Cond.privateMethod ({ cls := "ChantRulesModel", name := "comes", desc := "(I)I" } : Jvm.MethodName)) ∈ lw_tbl := lw_at lw_m9 32 rfl
theorem q2028 : (Jvm.Cond.instanceMethod ({ cls := "ChantRulesModel", name := "comes", desc := "(I)I" } : Jvm.MethodName)) ∈ lw_all := lw_g (lw_at lw_m9 33 rfl) rfl
theorem q2029 : (Jvm.Cond.code ({ cls := "ChantRulesModel", name := "comes", desc := "(I)I" } : Jvm.MethodName) prog_19_method_13_code (2 : Nat) (Option.some Jvm.ClassFile.FieldType.int)) ∈ lw_all := lw_g (lw_at lw_m9 34 rfl) rfl
theorem q2030 : (Jvm.Cond.methodLink "ChantRulesModel" (99 : Nat) ({ cls := "ChantRulesModel", name := "isRule", desc := "(I)Z" } : Jvm.MethodName)) ∈ lw_all := lw_g (lw_at lw_m9 35 rfl) rfl
theorem q2031 : (Jvm.Cond.static ({ cls := "ChantRulesModel", name := "isRule", desc := "(I)Z" } : Jvm.MethodName)) ∈ lw_all := lw_g (lw_at lw_m9 36 rfl) rfl
theorem q2032 : (Jvm.Cond.code ({ cls := "ChantRulesModel", name := "isRule", desc := "(I)Z" } : Jvm.MethodName) prog_19_method_8_code (1 : Nat) (Option.some Jvm.ClassFile.FieldType.boolean)) ∈ lw_all := lw_g (lw_at lw_m9 37 rfl) rfl
theorem q2033 : (Jvm.Cond.methodLink "ChantRulesModel" (95 : Nat) ({ cls := "ChantRulesModel", name := "isIn", desc := "(III)Z" } : Jvm.MethodName)) ∈ lw_all := lw_g (lw_at lw_m9 38 rfl) rfl
theorem q2034 : (Jvm.Cond.static ({ cls := "ChantRulesModel", name := "isIn", desc := "(III)Z" } : Jvm.MethodName)) ∈ lw_all := lw_g (lw_at lw_m9 39 rfl) rfl
theorem q2035 : (Jvm.Cond.code ({ cls := "ChantRulesModel", name := "isIn", desc := "(III)Z" } : Jvm.MethodName) prog_19_method_4_code (3 : Nat) (Option.some Jvm.ClassFile.FieldType.boolean)) ∈ lw_all := lw_g (lw_at lw_m9 40 rfl) rfl
theorem q2036 : (Jvm.Cond.methodLink "ChantRulesModel" (84 : Nat) ({ cls := "ChantRulesModel", name := "fail", desc := "(I)I" } : Jvm.MethodName)) ∈ lw_all := lw_g (lw_at lw_m9 41 rfl) rfl
theorem q2037 : (Jvm.Cond.privateMethod ({ cls := "ChantRulesModel", name := "fail", desc := "(I)I" } : Jvm.MethodName)) ∈ lw_tbl := lw_at lw_m9 42 rfl
theorem q2038 : (Jvm.Cond.instanceMethod ({ cls := "ChantRulesModel", name := "fail", desc := "(I)I" } : Jvm.MethodName)) ∈ lw_all := lw_g (lw_at lw_m9 43 rfl) rfl
theorem q2039 : (Jvm.Cond.code ({ cls := "ChantRulesModel", name := "fail", desc := "(I)I" } : Jvm.MethodName) prog_19_method_2_code (2 : Nat) (Option.some Jvm.ClassFile.FieldType.int)) ∈ lw_all := lw_g (lw_at lw_m9 44 rfl) rfl
theorem q2040 : (Jvm.Cond.methodLink "ChantRulesModel" (103 : Nat) ({ cls := "ChantRulesModel", name := "refuses", desc := "(II)I" } : Jvm.MethodName)) ∈ lw_all := lw_g (lw_at lw_m9 45 rfl) rfl
theorem q2041 : (Jvm.Cond.privateMethod ({ cls := "ChantRulesModel", name := "refuses", desc := "(II)I" } : Jvm.MethodName)) ∈ lw_tbl := lw_at lw_m9 46 rfl
theorem q2042 : (Jvm.Cond.instanceMethod ({ cls := "ChantRulesModel", name := "refuses", desc := "(II)I" } : Jvm.MethodName)) ∈ lw_all := lw_g (lw_at lw_m9 47 rfl) rfl
theorem q2043 : (Jvm.Cond.code ({ cls := "ChantRulesModel", name := "refuses", desc := "(II)I" } : Jvm.MethodName) prog_19_method_3_code (3 : Nat) (Option.some Jvm.ClassFile.FieldType.int)) ∈ lw_all := lw_g (lw_at lw_m9 48 rfl) rfl
theorem q2044 : (Jvm.Cond.methodLink "ChantRulesModel" (107 : Nat) ({ cls := "ChantRulesModel", name := "endAt", desc := "(II)I" } : Jvm.MethodName)) ∈ lw_all := lw_g (lw_at lw_m9 49 rfl) rfl
theorem q2045 : (Jvm.Cond.static ({ cls := "ChantRulesModel", name := "endAt", desc := "(II)I" } : Jvm.MethodName)) ∈ lw_all := lw_g (lw_at lw_m9 50 rfl) rfl
theorem q2046 : (Jvm.Cond.code ({ cls := "ChantRulesModel", name := "endAt", desc := "(II)I" } : Jvm.MethodName) prog_19_method_11_code (2 : Nat) (Option.some Jvm.ClassFile.FieldType.int)) ∈ lw_all := lw_g (lw_at lw_m9 51 rfl) rfl
theorem q2047 : (Jvm.Cond.methodLink "ChantRulesModel" (116 : Nat) ({ cls := "ChantRulesModel", name := "ends", desc := "(I)I" } : Jvm.MethodName)) ∈ lw_all := lw_g (lw_at lw_m9 52 rfl) rfl
theorem q2048 : (Jvm.Cond.privateMethod ({ cls := "ChantRulesModel", name := "ends", desc := "(I)I" } : Jvm.MethodName)) ∈ lw_tbl := lw_at lw_m9 53 rfl
theorem q2049 : (Jvm.Cond.instanceMethod ({ cls := "ChantRulesModel", name := "ends", desc := "(I)I" } : Jvm.MethodName)) ∈ lw_all := lw_g (lw_at lw_m9 54 rfl) rfl
theorem q2050 : (Jvm.Cond.code ({ cls := "ChantRulesModel", name := "ends", desc := "(I)I" } : Jvm.MethodName) prog_19_method_7_code (3 : Nat) (Option.some Jvm.ClassFile.FieldType.int)) ∈ lw_all := lw_g (lw_at lw_m9 55 rfl) rfl
theorem q2052 : (Jvm.Cond.instanceMethod ({ cls := "ChantRulesModel", name := "end", desc := "(III)I" } : Jvm.MethodName)) ∈ lw_all := lw_g (lw_at lw_m9 57 rfl) rfl
theorem q2053 : (Jvm.Cond.selects "ChantRulesModel" ({ cls := "ChantRulesModel", name := "end", desc := "(III)I" } : Jvm.MethodName) ({ cls := "ChantRulesModel", name := "end", desc := "(III)I" } : Jvm.MethodName)) ∈ lw_all := lw_g (lw_at lw_m9 58 rfl) rfl
theorem q2054 : (Jvm.Cond.code ({ cls := "ChantRulesModel", name := "end", desc := "(III)I" } : Jvm.MethodName) prog_19_method_17_code (4 : Nat) (Option.some Jvm.ClassFile.FieldType.int)) ∈ lw_all := lw_g (lw_at lw_m9 59 rfl) rfl
theorem q2055 : (Jvm.Cond.methodLink "ChantRulesModel" (126 : Nat) ({ cls := "ChantRulesModel", name := "setsEnd", desc := "(III)I" } : Jvm.MethodName)) ∈ lw_all := lw_g (lw_at lw_m9 60 rfl) rfl
theorem q2056 : (Jvm.Cond.privateMethod ({ cls := "ChantRulesModel", name := "setsEnd", desc := "(III)I" } : Jvm.MethodName)) ∈ lw_tbl := lw_at lw_m9 61 rfl
theorem q2057 : (Jvm.Cond.instanceMethod ({ cls := "ChantRulesModel", name := "setsEnd", desc := "(III)I" } : Jvm.MethodName)) ∈ lw_all := lw_g (lw_at lw_m9 62 rfl) rfl
theorem q2058 : (Jvm.Cond.code ({ cls := "ChantRulesModel", name := "setsEnd", desc := "(III)I" } : Jvm.MethodName) prog_19_method_16_code (4 : Nat) (Option.some Jvm.ClassFile.FieldType.int)) ∈ lw_all := lw_g (lw_at lw_m9 63 rfl) rfl
theorem q2059 : (Jvm.Cond.methodLink "ChantRulesModel" (119 : Nat) ({ cls := "ChantRulesModel", name := "isState", desc := "(II)Z" } : Jvm.MethodName)) ∈ lw_all := lw_g (lw_at lw_m9 64 rfl) rfl
theorem q2060 : (Jvm.Cond.privateMethod ({ cls := "ChantRulesModel", name := "isState", desc := "(II)Z" } : Jvm.MethodName)) ∈ lw_tbl := lw_at lw_m9 65 rfl
theorem q2061 : (Jvm.Cond.instanceMethod ({ cls := "ChantRulesModel", name := "isState", desc := "(II)Z" } : Jvm.MethodName)) ∈ lw_all := lw_g (lw_at lw_m9 66 rfl) rfl
theorem q2062 : (Jvm.Cond.code ({ cls := "ChantRulesModel", name := "isState", desc := "(II)Z" } : Jvm.MethodName) prog_19_method_9_code (3 : Nat) (Option.some Jvm.ClassFile.FieldType.boolean)) ∈ lw_all := lw_g (lw_at lw_m9 67 rfl) rfl
theorem q2063 : (Jvm.Cond.methodLink "ChantRulesModel" (123 : Nat) ({ cls := "ChantRulesModel", name := "endsOf", desc := "(I)I" } : Jvm.MethodName)) ∈ lw_all := lw_g (lw_at lw_m9 68 rfl) rfl
theorem q2064 : (Jvm.Cond.privateMethod ({ cls := "ChantRulesModel", name := "endsOf", desc := "(I)I" } : Jvm.MethodName)) ∈ lw_tbl := lw_at lw_m9 69 rfl
theorem q2065 : (Jvm.Cond.instanceMethod ({ cls := "ChantRulesModel", name := "endsOf", desc := "(I)I" } : Jvm.MethodName)) ∈ lw_all := lw_g (lw_at lw_m9 70 rfl) rfl
theorem q2066 : (Jvm.Cond.code ({ cls := "ChantRulesModel", name := "endsOf", desc := "(I)I" } : Jvm.MethodName) prog_19_method_15_code (4 : Nat) (Option.some Jvm.ClassFile.FieldType.int)) ∈ lw_all := lw_g (lw_at lw_m9 71 rfl) rfl
theorem q2068 : (Jvm.Cond.instanceMethod ({ cls := "ChantRulesModel", name := "arc", desc := "(IIIIII)I" } : Jvm.MethodName)) ∈ lw_all := lw_g (lw_at lw_m9 73 rfl) rfl
theorem q2069 : (Jvm.Cond.selects "ChantRulesModel" ({ cls := "ChantRulesModel", name := "arc", desc := "(IIIIII)I" } : Jvm.MethodName) ({ cls := "ChantRulesModel", name := "arc", desc := "(IIIIII)I" } : Jvm.MethodName)) ∈ lw_all := lw_g (lw_at lw_m9 74 rfl) rfl
theorem q2070 : (Jvm.Cond.code ({ cls := "ChantRulesModel", name := "arc", desc := "(IIIIII)I" } : Jvm.MethodName) prog_19_method_20_code (7 : Nat) (Option.some Jvm.ClassFile.FieldType.int)) ∈ lw_all := lw_g (lw_at lw_m9 75 rfl) rfl
theorem q2071 : (Jvm.Cond.methodLink "ChantRulesModel" (137 : Nat) ({ cls := "ChantRulesModel", name := "tellsArc", desc := "(IIIIII)I" } : Jvm.MethodName)) ∈ lw_all := lw_g (lw_at lw_m9 76 rfl) rfl
theorem q2072 : (Jvm.Cond.privateMethod ({ cls := "ChantRulesModel", name := "tellsArc", desc := "(IIIIII)I" } : Jvm.MethodName)) ∈ lw_tbl := lw_at lw_m9 77 rfl
theorem q2073 : (Jvm.Cond.instanceMethod ({ cls := "ChantRulesModel", name := "tellsArc", desc := "(IIIIII)I" } : Jvm.MethodName)) ∈ lw_all := lw_g (lw_at lw_m9 78 rfl) rfl
theorem q2074 : (Jvm.Cond.code ({ cls := "ChantRulesModel", name := "tellsArc", desc := "(IIIIII)I" } : Jvm.MethodName) prog_19_method_19_code (9 : Nat) (Option.some Jvm.ClassFile.FieldType.int)) ∈ lw_all := lw_g (lw_at lw_m9 79 rfl) rfl
theorem q2075 : (Jvm.Cond.methodLink "ChantRulesModel" (133 : Nat) ({ cls := "ChantRulesModel", name := "like", desc := "(IIIII)I" } : Jvm.MethodName)) ∈ lw_all := lw_g (lw_at lw_m9 80 rfl) rfl
theorem q2076 : (Jvm.Cond.privateMethod ({ cls := "ChantRulesModel", name := "like", desc := "(IIIII)I" } : Jvm.MethodName)) ∈ lw_tbl := lw_at lw_m9 81 rfl
theorem q2077 : (Jvm.Cond.instanceMethod ({ cls := "ChantRulesModel", name := "like", desc := "(IIIII)I" } : Jvm.MethodName)) ∈ lw_all := lw_g (lw_at lw_m9 82 rfl) rfl
theorem q2078 : (Jvm.Cond.code ({ cls := "ChantRulesModel", name := "like", desc := "(IIIII)I" } : Jvm.MethodName) prog_19_method_18_code (7 : Nat) (Option.some Jvm.ClassFile.FieldType.int)) ∈ lw_all := lw_g (lw_at lw_m9 83 rfl) rfl
theorem q2079 : (Jvm.Cond.methodLink "ChantRulesModel" (130 : Nat) ({ cls := "ChantRulesModel", name := "of", desc := "(III)I" } : Jvm.MethodName)) ∈ lw_all := lw_g (lw_at lw_m9 84 rfl) rfl
theorem q2080 : (Jvm.Cond.static ({ cls := "ChantRulesModel", name := "of", desc := "(III)I" } : Jvm.MethodName)) ∈ lw_all := lw_g (lw_at lw_m9 85 rfl) rfl
theorem q2081 : (Jvm.Cond.code ({ cls := "ChantRulesModel", name := "of", desc := "(III)I" } : Jvm.MethodName) prog_19_method_12_code (3 : Nat) (Option.some Jvm.ClassFile.FieldType.int)) ∈ lw_all := lw_g (lw_at lw_m9 86 rfl) rfl
theorem q2083 : (Jvm.Cond.instanceMethod ({ cls := "ChantRulesModel", name := "weigh", desc := "(III)I" } : Jvm.MethodName)) ∈ lw_all := lw_g (lw_at lw_m9 88 rfl) rfl
theorem q2084 : (Jvm.Cond.selects "ChantRulesModel" ({ cls := "ChantRulesModel", name := "weigh", desc := "(III)I" } : Jvm.MethodName) ({ cls := "ChantRulesModel", name := "weigh", desc := "(III)I" } : Jvm.MethodName)) ∈ lw_all := lw_g (lw_at lw_m9 89 rfl) rfl
theorem q2085 : (Jvm.Cond.code ({ cls := "ChantRulesModel", name := "weigh", desc := "(III)I" } : Jvm.MethodName) prog_19_method_22_code (4 : Nat) (Option.some Jvm.ClassFile.FieldType.int)) ∈ lw_all := lw_g (lw_at lw_m9 90 rfl) rfl
theorem q2086 : (Jvm.Cond.methodLink "ChantRulesModel" (144 : Nat) ({ cls := "ChantRulesModel", name := "weighs", desc := "(III)I" } : Jvm.MethodName)) ∈ lw_all := lw_g (lw_at lw_m9 91 rfl) rfl
theorem q2087 : (Jvm.Cond.privateMethod ({ cls := "ChantRulesModel", name := "weighs", desc := "(III)I" } : Jvm.MethodName)) ∈ lw_tbl := lw_at lw_m9 92 rfl
theorem q2088 : (Jvm.Cond.instanceMethod ({ cls := "ChantRulesModel", name := "weighs", desc := "(III)I" } : Jvm.MethodName)) ∈ lw_all := lw_g (lw_at lw_m9 93 rfl) rfl
theorem q2089 : (Jvm.Cond.code ({ cls := "ChantRulesModel", name := "weighs", desc := "(III)I" } : Jvm.MethodName) prog_19_method_21_code (5 : Nat) (Option.some Jvm.ClassFile.FieldType.int)) ∈ lw_all := lw_g (lw_at lw_m9 94 rfl) rfl
theorem q2090 : (Jvm.Cond.methodLink "ChantRulesModel" (141 : Nat) ({ cls := "ChantRulesModel", name := "isArc", desc := "(II)Z" } : Jvm.MethodName)) ∈ lw_all := lw_g (lw_at lw_m9 95 rfl) rfl
theorem q2091 : (Jvm.Cond.privateMethod ({ cls := "ChantRulesModel", name := "isArc", desc := "(II)Z" } : Jvm.MethodName)) ∈ lw_tbl := lw_at lw_m9 96 rfl
theorem q2092 : (Jvm.Cond.instanceMethod ({ cls := "ChantRulesModel", name := "isArc", desc := "(II)Z" } : Jvm.MethodName)) ∈ lw_all := lw_g (lw_at lw_m9 97 rfl) rfl
theorem q2093 : (Jvm.Cond.code ({ cls := "ChantRulesModel", name := "isArc", desc := "(II)Z" } : Jvm.MethodName) prog_19_method_10_code (3 : Nat) (Option.some Jvm.ClassFile.FieldType.boolean)) ∈ lw_all := lw_g (lw_at lw_m9 98 rfl) rfl
theorem q2095 : (Jvm.Cond.instanceMethod ({ cls := "ChantRulesModel", name := "drop", desc := "(II)I" } : Jvm.MethodName)) ∈ lw_all := lw_g (lw_at lw_m9 100 rfl) rfl
theorem q2096 : (Jvm.Cond.selects "ChantRulesModel" ({ cls := "ChantRulesModel", name := "drop", desc := "(II)I" } : Jvm.MethodName) ({ cls := "ChantRulesModel", name := "drop", desc := "(II)I" } : Jvm.MethodName)) ∈ lw_all := lw_g (lw_at lw_m9 101 rfl) rfl
theorem q2097 : (Jvm.Cond.code ({ cls := "ChantRulesModel", name := "drop", desc := "(II)I" } : Jvm.MethodName) prog_19_method_24_code (3 : Nat) (Option.some Jvm.ClassFile.FieldType.int)) ∈ lw_all := lw_g (lw_at lw_m9 102 rfl) rfl
theorem q2098 : (Jvm.Cond.methodLink "ChantRulesModel" (147 : Nat) ({ cls := "ChantRulesModel", name := "drops", desc := "(II)I" } : Jvm.MethodName)) ∈ lw_all := lw_g (lw_at lw_m9 103 rfl) rfl
theorem q2099 : (Jvm.Cond.privateMethod ({ cls := "ChantRulesModel", name := "drops", desc := "(II)I" } : Jvm.MethodName)) ∈ lw_tbl := lw_at lw_m9 104 rfl
theorem q2100 : (Jvm.Cond.instanceMethod ({ cls := "ChantRulesModel", name := "drops", desc := "(II)I" } : Jvm.MethodName)) ∈ lw_all := lw_g (lw_at lw_m9 105 rfl) rfl
theorem q2101 : (Jvm.Cond.code ({ cls := "ChantRulesModel", name := "drops", desc := "(II)I" } : Jvm.MethodName) prog_19_method_23_code (4 : Nat) (Option.some Jvm.ClassFile.FieldType.int)) ∈ lw_all := lw_g (lw_at lw_m9 106 rfl) rfl
theorem q2103 : (Jvm.Cond.instanceMethod ({ cls := "ChantRulesModel", name := "turn", desc := "(I)I" } : Jvm.MethodName)) ∈ lw_all := lw_g (lw_at lw_m9 108 rfl) rfl
theorem q2104 : (Jvm.Cond.selects "ChantRulesModel" ({ cls := "ChantRulesModel", name := "turn", desc := "(I)I" } : Jvm.MethodName) ({ cls := "ChantRulesModel", name := "turn", desc := "(I)I" } : Jvm.MethodName)) ∈ lw_all := lw_g (lw_at lw_m9 109 rfl) rfl
theorem q2105 : (Jvm.Cond.code ({ cls := "ChantRulesModel", name := "turn", desc := "(I)I" } : Jvm.MethodName) prog_19_method_26_code (2 : Nat) (Option.some Jvm.ClassFile.FieldType.int)) ∈ lw_all := lw_g (lw_at lw_m9 110 rfl) rfl
theorem q2106 : (Jvm.Cond.methodLink "ChantRulesModel" (150 : Nat) ({ cls := "ChantRulesModel", name := "turns", desc := "(I)I" } : Jvm.MethodName)) ∈ lw_all := lw_g (lw_at lw_m9 111 rfl) rfl
theorem q2107 : (Jvm.Cond.privateMethod ({ cls := "ChantRulesModel", name := "turns", desc := "(I)I" } : Jvm.MethodName)) ∈ lw_tbl := lw_at lw_m9 112 rfl
theorem q2108 : (Jvm.Cond.instanceMethod ({ cls := "ChantRulesModel", name := "turns", desc := "(I)I" } : Jvm.MethodName)) ∈ lw_all := lw_g (lw_at lw_m9 113 rfl) rfl
theorem q2109 : (Jvm.Cond.code ({ cls := "ChantRulesModel", name := "turns", desc := "(I)I" } : Jvm.MethodName) prog_19_method_25_code (5 : Nat) (Option.some Jvm.ClassFile.FieldType.int)) ∈ lw_all := lw_g (lw_at lw_m9 114 rfl) rfl
theorem q2111 : (Jvm.Cond.instanceMethod ({ cls := "ChantRulesModel", name := "arcOf", desc := "(III)I" } : Jvm.MethodName)) ∈ lw_all := lw_g (lw_at lw_m9 116 rfl) rfl
theorem q2112 : (Jvm.Cond.selects "ChantRulesModel" ({ cls := "ChantRulesModel", name := "arcOf", desc := "(III)I" } : Jvm.MethodName) ({ cls := "ChantRulesModel", name := "arcOf", desc := "(III)I" } : Jvm.MethodName)) ∈ lw_all := lw_g (lw_at lw_m9 117 rfl) rfl
theorem q2113 : (Jvm.Cond.code ({ cls := "ChantRulesModel", name := "arcOf", desc := "(III)I" } : Jvm.MethodName) prog_19_method_27_code (4 : Nat) (Option.some Jvm.ClassFile.FieldType.int)) ∈ lw_all := lw_g (lw_at lw_m9 118 rfl) rfl
theorem q2115 : (Jvm.Cond.instanceMethod ({ cls := "ChantRulesModel", name := "stateOf", desc := "(III)I" } : Jvm.MethodName)) ∈ lw_all := lw_g (lw_at lw_m9 120 rfl) rfl
theorem q2116 : (Jvm.Cond.selects "ChantRulesModel" ({ cls := "ChantRulesModel", name := "stateOf", desc := "(III)I" } : Jvm.MethodName) ({ cls := "ChantRulesModel", name := "stateOf", desc := "(III)I" } : Jvm.MethodName)) ∈ lw_all := lw_g (lw_at lw_m9 121 rfl) rfl
theorem q2117 : (Jvm.Cond.code ({ cls := "ChantRulesModel", name := "stateOf", desc := "(III)I" } : Jvm.MethodName) prog_19_method_36_code (4 : Nat) (Option.some Jvm.ClassFile.FieldType.int)) ∈ lw_all := lw_g (lw_at lw_m9 122 rfl) rfl
theorem q2118 : (Jvm.Cond.methodLink "ChantRulesModel" (170 : Nat) ({ cls := "ChantRulesModel", name := "laysRule", desc := "(I)V" } : Jvm.MethodName)) ∈ lw_all := lw_g (lw_at lw_m9 123 rfl) rfl
theorem q2119 : (Jvm.Cond.privateMethod ({ cls := "ChantRulesModel", name := "laysRule", desc := "(I)V" } : Jvm.MethodName)) ∈ lw_tbl := lw_at lw_m9 124 rfl
theorem q2120 : (Jvm.Cond.instanceMethod ({ cls := "ChantRulesModel", name := "laysRule", desc := "(I)V" } : Jvm.MethodName)) ∈ lw_all := lw_g (lw_at lw_m9 125 rfl) rfl
theorem q2121 : (Jvm.Cond.code ({ cls := "ChantRulesModel", name := "laysRule", desc := "(I)V" } : Jvm.MethodName) prog_19_method_29_code (3 : Nat) (Option.none : Option Jvm.ClassFile.FieldType)) ∈ lw_all := lw_g (lw_at lw_m9 126 rfl) rfl
theorem q2122 : (Jvm.Cond.methodLink "ChantRulesModel" (159 : Nat) ({ cls := "ChantRulesModel", name := "lay", desc := "(IIIII)V" } : Jvm.MethodName)) ∈ lw_all := lw_g (lw_at lw_m9 127 rfl) rfl
theorem q2123 : (Jvm.Cond.privateMethod ({ cls := "ChantRulesModel", name := "lay", desc := "(IIIII)V" } : Jvm.MethodName)) ∈ lw_tbl := lw_at lw_m9 128 rfl
theorem q2124 : (Jvm.Cond.instanceMethod ({ cls := "ChantRulesModel", name := "lay", desc := "(IIIII)V" } : Jvm.MethodName)) ∈ lw_all := lw_g (lw_at lw_m9 129 rfl) rfl
theorem q2125 : (Jvm.Cond.code ({ cls := "ChantRulesModel", name := "lay", desc := "(IIIII)V" } : Jvm.MethodName) prog_19_method_28_code (6 : Nat) (Option.none : Option Jvm.ClassFile.FieldType)) ∈ lw_all := lw_g (lw_at lw_m9 130 rfl) rfl
theorem q2126 : (Jvm.Cond.methodLink "ChantRulesModel" (173 : Nat) ({ cls := "ChantRulesModel", name := "finds", desc := "()V" } : Jvm.MethodName)) ∈ lw_all := lw_g (lw_at lw_m9 131 rfl) rfl
theorem q2127 : (Jvm.Cond.privateMethod ({ cls := "ChantRulesModel", name := "finds", desc := "()V" } : Jvm.MethodName)) ∈ lw_tbl := lw_at lw_m9 132 rfl
theorem q2128 : (Jvm.Cond.instanceMethod ({ cls := "ChantRulesModel", name := "finds", desc := "()V" } : Jvm.MethodName)) ∈ lw_all := lw_g (lw_at lw_m9 133 rfl) rfl
theorem q2129 : (Jvm.Cond.code ({ cls := "ChantRulesModel", name := "finds", desc := "()V" } : Jvm.MethodName) prog_19_method_33_code (3 : Nat) (Option.none : Option Jvm.ClassFile.FieldType)) ∈ lw_all := lw_g (lw_at lw_m9 134 rfl) rfl
theorem q2130 : (Jvm.Cond.methodLink "ChantRulesModel" (176 : Nat) ({ cls := "ChantRulesModel", name := "leads", desc := "(IZ)I" } : Jvm.MethodName)) ∈ lw_all := lw_g (lw_at lw_m9 135 rfl) rfl
theorem q2131 : (Jvm.Cond.privateMethod ({ cls := "ChantRulesModel", name := "leads", desc := "(IZ)I" } : Jvm.MethodName)) ∈ lw_tbl := lw_at lw_m9 136 rfl
theorem q2132 : (Jvm.Cond.instanceMethod ({ cls := "ChantRulesModel", name := "leads", desc := "(IZ)I" } : Jvm.MethodName)) ∈ lw_all := lw_g (lw_at lw_m9 137 rfl) rfl
theorem q2133 : (Jvm.Cond.code ({ cls := "ChantRulesModel", name := "leads", desc := "(IZ)I" } : Jvm.MethodName) prog_19_method_35_code (5 : Nat) (Option.some Jvm.ClassFile.FieldType.int)) ∈ lw_all := lw_g (lw_at lw_m9 138 rfl) rfl
theorem q2134 : (Jvm.Cond.methodLink "ChantRulesModel" (180 : Nat) ({ cls := "ChantRulesModel", name := "byBreaths", desc := "(IZ)I" } : Jvm.MethodName)) ∈ lw_all := lw_g (lw_at lw_m9 139 rfl) rfl
theorem q2135 : (Jvm.Cond.privateMethod ({ cls := "ChantRulesModel", name := "byBreaths", desc := "(IZ)I" } : Jvm.MethodName)) ∈ lw_tbl := lw_at lw_m9 140 rfl
theorem q2136 : (Jvm.Cond.instanceMethod ({ cls := "ChantRulesModel", name := "byBreaths", desc := "(IZ)I" } : Jvm.MethodName)) ∈ lw_all := lw_g (lw_at lw_m9 141 rfl) rfl
theorem q2137 : (Jvm.Cond.code ({ cls := "ChantRulesModel", name := "byBreaths", desc := "(IZ)I" } : Jvm.MethodName) prog_19_method_34_code (6 : Nat) (Option.some Jvm.ClassFile.FieldType.int)) ∈ lw_all := lw_g (lw_at lw_m9 142 rfl) rfl
theorem q2139 : (Jvm.Cond.instanceMethod ({ cls := "ChantRulesModel", name := "least", desc := "(I)I" } : Jvm.MethodName)) ∈ lw_all := lw_g (lw_at lw_m9 144 rfl) rfl
theorem q2140 : (Jvm.Cond.selects "ChantRulesModel" ({ cls := "ChantRulesModel", name := "least", desc := "(I)I" } : Jvm.MethodName) ({ cls := "ChantRulesModel", name := "least", desc := "(I)I" } : Jvm.MethodName)) ∈ lw_all := lw_g (lw_at lw_m9 145 rfl) rfl
theorem q2141 : (Jvm.Cond.code ({ cls := "ChantRulesModel", name := "least", desc := "(I)I" } : Jvm.MethodName) prog_19_method_45_code (2 : Nat) (Option.some Jvm.ClassFile.FieldType.int)) ∈ lw_all := lw_g (lw_at lw_m9 146 rfl) rfl
theorem q2142 : (Jvm.Cond.methodLink "ChantRulesModel" (213 : Nat) ({ cls := "ChantRulesModel", name := "isWord", desc := "()Z" } : Jvm.MethodName)) ∈ lw_all := lw_g (lw_at lw_m9 147 rfl) rfl
theorem q2143 : (Jvm.Cond.privateMethod ({ cls := "ChantRulesModel", name := "isWord", desc := "()Z" } : Jvm.MethodName)) ∈ lw_tbl := lw_at lw_m9 148 rfl
theorem q2144 : (Jvm.Cond.instanceMethod ({ cls := "ChantRulesModel", name := "isWord", desc := "()Z" } : Jvm.MethodName)) ∈ lw_all := lw_g (lw_at lw_m9 149 rfl) rfl
theorem q2145 : (Jvm.Cond.code ({ cls := "ChantRulesModel", name := "isWord", desc := "()Z" } : Jvm.MethodName) prog_19_method_37_code (3 : Nat) (Option.some Jvm.ClassFile.FieldType.boolean)) ∈ lw_all := lw_g (lw_at lw_m9 150 rfl) rfl
theorem q2146 : (Jvm.Cond.methodLink "ChantRulesModel" (217 : Nat) ({ cls := "ChantRulesModel", name := "reads", desc := "()Z" } : Jvm.MethodName)) ∈ lw_all := lw_g (lw_at lw_m9 151 rfl) rfl
theorem q2147 : (Jvm.Cond.privateMethod ({ cls := "ChantRulesModel", name := "reads", desc := "()Z" } : Jvm.MethodName)) ∈ lw_tbl := lw_at lw_m9 152 rfl
theorem q2148 : (Jvm.Cond.instanceMethod ({ cls := "ChantRulesModel", name := "reads", desc := "()Z" } : Jvm.MethodName)) ∈ lw_all := lw_g (lw_at lw_m9 153 rfl) rfl
theorem q2149 : (Jvm.Cond.code ({ cls := "ChantRulesModel", name := "reads", desc := "()Z" } : Jvm.MethodName) prog_19_method_42_code (5 : Nat) (Option.some Jvm.ClassFile.FieldType.boolean)) ∈ lw_all := lw_g (lw_at lw_m9 154 rfl) rfl
theorem q2150 : (Jvm.Cond.methodLink "ChantRulesModel" (196 : Nat) ({ cls := "ChantRulesModel", name := "nextPlace", desc := "()I" } : Jvm.MethodName)) ∈ lw_all := lw_g (lw_at lw_m9 155 rfl) rfl
theorem q2151 : (Jvm.Cond.privateMethod ({ cls := "ChantRulesModel", name := "nextPlace", desc := "()I" } : Jvm.MethodName)) ∈ lw_tbl := lw_at lw_m9 156 rfl
theorem q2152 : (Jvm.Cond.instanceMethod ({ cls := "ChantRulesModel", name := "nextPlace", desc := "()I" } : Jvm.MethodName)) ∈ lw_all := lw_g (lw_at lw_m9 157 rfl) rfl
theorem q2153 : (Jvm.Cond.code ({ cls := "ChantRulesModel", name := "nextPlace", desc := "()I" } : Jvm.MethodName) prog_19_method_41_code (3 : Nat) (Option.some Jvm.ClassFile.FieldType.int)) ∈ lw_all := lw_g (lw_at lw_m9 158 rfl) rfl
theorem q2154 : (Jvm.Cond.methodLink "ChantRulesModel" (189 : Nat) ({ cls := "ChantRulesModel", name := "isLess", desc := "(IIIII)Z" } : Jvm.MethodName)) ∈ lw_all := lw_g (lw_at lw_m9 159 rfl) rfl
theorem q2155 : (Jvm.Cond.privateMethod ({ cls := "ChantRulesModel", name := "isLess", desc := "(IIIII)Z" } : Jvm.MethodName)) ∈ lw_tbl := lw_at lw_m9 160 rfl
theorem q2156 : (Jvm.Cond.instanceMethod ({ cls := "ChantRulesModel", name := "isLess", desc := "(IIIII)Z" } : Jvm.MethodName)) ∈ lw_all := lw_g (lw_at lw_m9 161 rfl) rfl
theorem q2157 : (Jvm.Cond.code ({ cls := "ChantRulesModel", name := "isLess", desc := "(IIIII)Z" } : Jvm.MethodName) prog_19_method_39_code (7 : Nat) (Option.some Jvm.ClassFile.FieldType.boolean)) ∈ lw_all := lw_g (lw_at lw_m9 162 rfl) rfl
theorem q2158 : (Jvm.Cond.methodLink "ChantRulesModel" (186 : Nat) ({ cls := "ChantRulesModel", name := "compares", desc := "(III)I" } : Jvm.MethodName)) ∈ lw_all := lw_g (lw_at lw_m9 163 rfl) rfl
theorem q2159 : (Jvm.Cond.privateMethod ({ cls := "ChantRulesModel", name := "compares", desc := "(III)I" } : Jvm.MethodName)) ∈ lw_tbl := lw_at lw_m9 164 rfl
theorem q2160 : (Jvm.Cond.instanceMethod ({ cls := "ChantRulesModel", name := "compares", desc := "(III)I" } : Jvm.MethodName)) ∈ lw_all := lw_g (lw_at lw_m9 165 rfl) rfl
theorem q2161 : (Jvm.Cond.code ({ cls := "ChantRulesModel", name := "compares", desc := "(III)I" } : Jvm.MethodName) prog_19_method_38_code (5 : Nat) (Option.some Jvm.ClassFile.FieldType.int)) ∈ lw_all := lw_g (lw_at lw_m9 166 rfl) rfl
theorem q2162 : (Jvm.Cond.methodLink "ChantRulesModel" (203 : Nat) ({ cls := "ChantRulesModel", name := "goes", desc := "(II)V" } : Jvm.MethodName)) ∈ lw_all := lw_g (lw_at lw_m9 167 rfl) rfl
theorem q2163 : (Jvm.Cond.privateMethod ({ cls := "ChantRulesModel", name := "goes", desc := "(II)V" } : Jvm.MethodName)) ∈ lw_tbl := lw_at lw_m9 168 rfl
theorem q2164 : (Jvm.Cond.instanceMethod ({ cls := "ChantRulesModel", name := "goes", desc := "(II)V" } : Jvm.MethodName)) ∈ lw_all := lw_g (lw_at lw_m9 169 rfl) rfl
theorem q2165 : (Jvm.Cond.code ({ cls := "ChantRulesModel", name := "goes", desc := "(II)V" } : Jvm.MethodName) prog_19_method_40_code (8 : Nat) (Option.none : Option Jvm.ClassFile.FieldType)) ∈ lw_all := lw_g (lw_at lw_m9 170 rfl) rfl
theorem q2167 : (Jvm.Cond.instanceMethod ({ cls := "ChantRulesModel", name := "sing", desc := "(I)I" } : Jvm.MethodName)) ∈ lw_all := lw_g (lw_at lw_m9 172 rfl) rfl
theorem q2168 : (Jvm.Cond.selects "ChantRulesModel" ({ cls := "ChantRulesModel", name := "sing", desc := "(I)I" } : Jvm.MethodName) ({ cls := "ChantRulesModel", name := "sing", desc := "(I)I" } : Jvm.MethodName)) ∈ lw_all := lw_g (lw_at lw_m9 173 rfl) rfl
theorem q2169 : (Jvm.Cond.code ({ cls := "ChantRulesModel", name := "sing", desc := "(I)I" } : Jvm.MethodName) prog_19_method_46_code (2 : Nat) (Option.some Jvm.ClassFile.FieldType.int)) ∈ lw_all := lw_g (lw_at lw_m9 174 rfl) rfl
theorem q2170 : (Jvm.Cond.methodLink "ChantRulesModel" (220 : Nat) ({ cls := "ChantRulesModel", name := "songs", desc := "()I" } : Jvm.MethodName)) ∈ lw_all := lw_g (lw_at lw_m9 175 rfl) rfl
theorem q2171 : (Jvm.Cond.privateMethod ({ cls := "ChantRulesModel", name := "songs", desc := "()I" } : Jvm.MethodName)) ∈ lw_tbl := lw_at lw_m9 176 rfl
theorem q2172 : (Jvm.Cond.instanceMethod ({ cls := "ChantRulesModel", name := "songs", desc := "()I" } : Jvm.MethodName)) ∈ lw_all := lw_g (lw_at lw_m9 177 rfl) rfl
theorem q2173 : (Jvm.Cond.code ({ cls := "ChantRulesModel", name := "songs", desc := "()I" } : Jvm.MethodName) prog_19_method_44_code (2 : Nat) (Option.some Jvm.ClassFile.FieldType.int)) ∈ lw_all := lw_g (lw_at lw_m9 178 rfl) rfl
theorem q2174 : (Jvm.Cond.methodLink "ChantRulesModel" (210 : Nat) ({ cls := "ChantRulesModel", name := "writes", desc := "(I)V" } : Jvm.MethodName)) ∈ lw_all := lw_g (lw_at lw_m9 179 rfl) rfl
theorem q2175 : (Jvm.Cond.privateMethod ({ cls := "ChantRulesModel", name := "writes", desc := "(I)V" } : Jvm.MethodName)) ∈ lw_tbl := lw_at lw_m9 180 rfl
theorem q2176 : (Jvm.Cond.instanceMethod ({ cls := "ChantRulesModel", name := "writes", desc := "(I)V" } : Jvm.MethodName)) ∈ lw_all := lw_g (lw_at lw_m9 181 rfl) rfl
theorem q2177 : (Jvm.Cond.code ({ cls := "ChantRulesModel", name := "writes", desc := "(I)V" } : Jvm.MethodName) prog_19_method_43_code (2 : Nat) (Option.none : Option Jvm.ClassFile.FieldType)) ∈ lw_all := lw_g (lw_at lw_m9 182 rfl) rfl
theorem q2179 : (Jvm.Cond.instanceMethod ({ cls := "ChantRulesModel", name := "both", desc := "()I" } : Jvm.MethodName)) ∈ lw_all := lw_g (lw_at lw_m9 184 rfl) rfl
theorem q2180 : (Jvm.Cond.selects "ChantRulesModel" ({ cls := "ChantRulesModel", name := "both", desc := "()I" } : Jvm.MethodName) ({ cls := "ChantRulesModel", name := "both", desc := "()I" } : Jvm.MethodName)) ∈ lw_all := lw_g (lw_at lw_m9 185 rfl) rfl
theorem q2181 : (Jvm.Cond.code ({ cls := "ChantRulesModel", name := "both", desc := "()I" } : Jvm.MethodName) prog_19_method_47_code (1 : Nat) (Option.some Jvm.ClassFile.FieldType.int)) ∈ lw_all := lw_g (lw_at lw_m9 186 rfl) rfl
theorem q2182 : (Jvm.Cond.methodLink "ChantRulesModel" (223 : Nat) ({ cls := "ChantRulesModel", name := "laysBoth", desc := "()V" } : Jvm.MethodName)) ∈ lw_all := lw_g (lw_at lw_m9 187 rfl) rfl
theorem q2183 : (Jvm.Cond.privateMethod ({ cls := "ChantRulesModel", name := "laysBoth", desc := "()V" } : Jvm.MethodName)) ∈ lw_tbl := lw_at lw_m9 188 rfl
theorem q2184 : (Jvm.Cond.instanceMethod ({ cls := "ChantRulesModel", name := "laysBoth", desc := "()V" } : Jvm.MethodName)) ∈ lw_all := lw_g (lw_at lw_m9 189 rfl) rfl
theorem q2185 : (Jvm.Cond.code ({ cls := "ChantRulesModel", name := "laysBoth", desc := "()V" } : Jvm.MethodName) prog_19_method_32_code (5 : Nat) (Option.none : Option Jvm.ClassFile.FieldType)) ∈ lw_all := lw_g (lw_at lw_m9 190 rfl) rfl
theorem q2186 : (Jvm.Cond.methodLink "ChantRulesModel" (163 : Nat) ({ cls := "ChantRulesModel", name := "pair", desc := "(II)I" } : Jvm.MethodName)) ∈ lw_all := lw_g (lw_at lw_m9 191 rfl) rfl
theorem q2187 : (Jvm.Cond.static ({ cls := "ChantRulesModel", name := "pair", desc := "(II)I" } : Jvm.MethodName)) ∈ lw_all := lw_g (lw_at lw_m9 192 rfl) rfl
theorem q2188 : (Jvm.Cond.code ({ cls := "ChantRulesModel", name := "pair", desc := "(II)I" } : Jvm.MethodName) prog_19_method_30_code (2 : Nat) (Option.some Jvm.ClassFile.FieldType.int)) ∈ lw_all := lw_g (lw_at lw_m9 193 rfl) rfl
theorem q2189 : (Jvm.Cond.methodLink "ChantRulesModel" (166 : Nat) ({ cls := "ChantRulesModel", name := "laysFirst", desc := "(I)V" } : Jvm.MethodName)) ∈ lw_all := lw_g (lw_at lw_m9 194 rfl) rfl
theorem q2190 : (Jvm.Cond.privateMethod ({ cls := "ChantRulesModel", name := "laysFirst", desc := "(I)V" } : Jvm.MethodName)) ∈ lw_tbl := lw_at lw_m9 195 rfl
theorem q2191 : (Jvm.Cond.instanceMethod ({ cls := "ChantRulesModel", name := "laysFirst", desc := "(I)V" } : Jvm.MethodName)) ∈ lw_all := lw_g (lw_at lw_m9 196 rfl) rfl
theorem q2192 : (Jvm.Cond.code ({ cls := "ChantRulesModel", name := "laysFirst", desc := "(I)V" } : Jvm.MethodName) prog_19_method_31_code (8 : Nat) (Option.none : Option Jvm.ClassFile.FieldType)) ∈ lw_all := lw_g (lw_at lw_m9 197 rfl) rfl
theorem q2194 : (Jvm.Cond.instanceMethod ({ cls := "ChantRulesModel", name := "bothAgain", desc := "()I" } : Jvm.MethodName)) ∈ lw_all := lw_g (lw_at lw_m9 199 rfl) rfl
theorem q2195 : (Jvm.Cond.selects "ChantRulesModel" ({ cls := "ChantRulesModel", name := "bothAgain", desc := "()I" } : Jvm.MethodName) ({ cls := "ChantRulesModel", name := "bothAgain", desc := "()I" } : Jvm.MethodName)) ∈ lw_all := lw_g (lw_at lw_m9 200 rfl) rfl
theorem q2196 : (Jvm.Cond.code ({ cls := "ChantRulesModel", name := "bothAgain", desc := "()I" } : Jvm.MethodName) prog_19_method_48_code (1 : Nat) (Option.some Jvm.ClassFile.FieldType.int)) ∈ lw_all := lw_g (lw_at lw_m9 201 rfl) rfl
theorem q2197 : (Jvm.Cond.methodLink "ChantRulesModel" (226 : Nat) ({ cls := "ChantRulesModel", name := "both", desc := "()I" } : Jvm.MethodName)) ∈ lw_all := lw_g (lw_at lw_m9 202 rfl) rfl
theorem q2199 : (Jvm.Cond.instanceMethod ({ cls := "ChantRulesModel", name := "singBoth", desc := "()I" } : Jvm.MethodName)) ∈ lw_all := lw_g (lw_at lw_m9 204 rfl) rfl
theorem q2200 : (Jvm.Cond.selects "ChantRulesModel" ({ cls := "ChantRulesModel", name := "singBoth", desc := "()I" } : Jvm.MethodName) ({ cls := "ChantRulesModel", name := "singBoth", desc := "()I" } : Jvm.MethodName)) ∈ lw_all := lw_g (lw_at lw_m9 205 rfl) rfl
theorem q2201 : (Jvm.Cond.code ({ cls := "ChantRulesModel", name := "singBoth", desc := "()I" } : Jvm.MethodName) prog_19_method_49_code (1 : Nat) (Option.some Jvm.ClassFile.FieldType.int)) ∈ lw_all := lw_g (lw_at lw_m9 206 rfl) rfl
theorem q2203 : (Jvm.Cond.instanceMethod ({ cls := "ChantRulesModel", name := "composed", desc := "(I)I" } : Jvm.MethodName)) ∈ lw_all := lw_g (lw_at lw_m9 208 rfl) rfl
theorem q2204 : (Jvm.Cond.selects "ChantRulesModel" ({ cls := "ChantRulesModel", name := "composed", desc := "(I)I" } : Jvm.MethodName) ({ cls := "ChantRulesModel", name := "composed", desc := "(I)I" } : Jvm.MethodName)) ∈ lw_all := lw_g (lw_at lw_m9 209 rfl) rfl
theorem q2205 : (Jvm.Cond.code ({ cls := "ChantRulesModel", name := "composed", desc := "(I)I" } : Jvm.MethodName) prog_19_method_50_code (4 : Nat) (Option.some Jvm.ClassFile.FieldType.int)) ∈ lw_all := lw_g (lw_at lw_m9 210 rfl) rfl
theorem q2207 : (Jvm.Cond.instanceMethod ({ cls := "ChantRulesModel", name := "cheapest", desc := "(I)I" } : Jvm.MethodName)) ∈ lw_all := lw_g (lw_at lw_m9 212 rfl) rfl
theorem q2208 : (Jvm.Cond.selects "ChantRulesModel" ({ cls := "ChantRulesModel", name := "cheapest", desc := "(I)I" } : Jvm.MethodName) ({ cls := "ChantRulesModel", name := "cheapest", desc := "(I)I" } : Jvm.MethodName)) ∈ lw_all := lw_g (lw_at lw_m9 213 rfl) rfl
theorem q2209 : (Jvm.Cond.code ({ cls := "ChantRulesModel", name := "cheapest", desc := "(I)I" } : Jvm.MethodName) prog_19_method_53_code (2 : Nat) (Option.some Jvm.ClassFile.FieldType.int)) ∈ lw_all := lw_g (lw_at lw_m9 214 rfl) rfl
theorem q2210 : (Jvm.Cond.methodLink "ChantRulesModel" (234 : Nat) ({ cls := "ChantRulesModel", name := "leastOf", desc := "(IZ)I" } : Jvm.MethodName)) ∈ lw_all := lw_g (lw_at lw_m9 215 rfl) rfl
theorem q2211 : (Jvm.Cond.privateMethod ({ cls := "ChantRulesModel", name := "leastOf", desc := "(IZ)I" } : Jvm.MethodName)) ∈ lw_tbl := lw_at lw_m9 216 rfl
theorem q2212 : (Jvm.Cond.instanceMethod ({ cls := "ChantRulesModel", name := "leastOf", desc := "(IZ)I" } : Jvm.MethodName)) ∈ lw_all := lw_g (lw_at lw_m9 217 rfl) rfl
theorem q2213 : (Jvm.Cond.code ({ cls := "ChantRulesModel", name := "leastOf", desc := "(IZ)I" } : Jvm.MethodName) prog_19_method_52_code (4 : Nat) (Option.some Jvm.ClassFile.FieldType.int)) ∈ lw_all := lw_g (lw_at lw_m9 218 rfl) rfl
theorem q2214 : (Jvm.Cond.methodLink "ChantRulesModel" (230 : Nat) ({ cls := "ChantRulesModel", name := "leastWay", desc := "(Z)I" } : Jvm.MethodName)) ∈ lw_all := lw_g (lw_at lw_m9 219 rfl) rfl
theorem q2215 : (Jvm.Cond.privateMethod ({ cls := "ChantRulesModel", name := "leastWay", desc := "(Z)I" } : Jvm.MethodName)) ∈ lw_tbl := lw_at lw_m9 220 rfl
theorem q2216 : (Jvm.Cond.instanceMethod ({ cls := "ChantRulesModel", name := "leastWay", desc := "(Z)I" } : Jvm.MethodName)) ∈ lw_all := lw_g (lw_at lw_m9 221 rfl) rfl
theorem q2217 : (Jvm.Cond.code ({ cls := "ChantRulesModel", name := "leastWay", desc := "(Z)I" } : Jvm.MethodName) prog_19_method_51_code (5 : Nat) (Option.some Jvm.ClassFile.FieldType.int)) ∈ lw_all := lw_g (lw_at lw_m9 222 rfl) rfl
theorem q2218 : (Jvm.Cond.constant "ChantRulesModel" (229 : Nat) (100000 : Int32)) ∈ lw_all := lw_g (lw_at lw_m9 223 rfl) rfl
theorem q2220 : (Jvm.Cond.instanceMethod ({ cls := "ChantRulesModel", name := "shortest", desc := "(I)I" } : Jvm.MethodName)) ∈ lw_all := lw_g (lw_at lw_m9 225 rfl) rfl
theorem q2221 : (Jvm.Cond.selects "ChantRulesModel" ({ cls := "ChantRulesModel", name := "shortest", desc := "(I)I" } : Jvm.MethodName) ({ cls := "ChantRulesModel", name := "shortest", desc := "(I)I" } : Jvm.MethodName)) ∈ lw_all := lw_g (lw_at lw_m9 226 rfl) rfl
theorem q2222 : (Jvm.Cond.code ({ cls := "ChantRulesModel", name := "shortest", desc := "(I)I" } : Jvm.MethodName) prog_19_method_54_code (2 : Nat) (Option.some Jvm.ClassFile.FieldType.int)) ∈ lw_all := lw_g (lw_at lw_m9 227 rfl) rfl
theorem q2224 : (Jvm.Cond.instanceMethod ({ cls := "ChantRulesModel", name := "breathes", desc := "(I)I" } : Jvm.MethodName)) ∈ lw_all := lw_g (lw_at lw_m9 229 rfl) rfl
theorem q2225 : (Jvm.Cond.selects "ChantRulesModel" ({ cls := "ChantRulesModel", name := "breathes", desc := "(I)I" } : Jvm.MethodName) ({ cls := "ChantRulesModel", name := "breathes", desc := "(I)I" } : Jvm.MethodName)) ∈ lw_all := lw_g (lw_at lw_m9 230 rfl) rfl
theorem q2226 : (Jvm.Cond.code ({ cls := "ChantRulesModel", name := "breathes", desc := "(I)I" } : Jvm.MethodName) prog_19_method_55_code (4 : Nat) (Option.some Jvm.ClassFile.FieldType.int)) ∈ lw_all := lw_g (lw_at lw_m9 231 rfl) rfl
theorem q2228 : (Jvm.Cond.instanceMethod ({ cls := "ChantRulesModel", name := "ranked", desc := "(II)I" } : Jvm.MethodName)) ∈ lw_all := lw_g (lw_at lw_m9 233 rfl) rfl
theorem q2229 : (Jvm.Cond.selects "ChantRulesModel" ({ cls := "ChantRulesModel", name := "ranked", desc := "(II)I" } : Jvm.MethodName) ({ cls := "ChantRulesModel", name := "ranked", desc := "(II)I" } : Jvm.MethodName)) ∈ lw_all := lw_g (lw_at lw_m9 234 rfl) rfl
theorem q2230 : (Jvm.Cond.code ({ cls := "ChantRulesModel", name := "ranked", desc := "(II)I" } : Jvm.MethodName) prog_19_method_57_code (6 : Nat) (Option.some Jvm.ClassFile.FieldType.int)) ∈ lw_all := lw_g (lw_at lw_m9 235 rfl) rfl
theorem q2231 : (Jvm.Cond.methodLink "ChantRulesModel" (237 : Nat) ({ cls := "ChantRulesModel", name := "isAhead", desc := "(III)Z" } : Jvm.MethodName)) ∈ lw_all := lw_g (lw_at lw_m9 236 rfl) rfl
theorem q2232 : (Jvm.Cond.privateMethod ({ cls := "ChantRulesModel", name := "isAhead", desc := "(III)Z" } : Jvm.MethodName)) ∈ lw_tbl := lw_at lw_m9 237 rfl
theorem q2233 : (Jvm.Cond.instanceMethod ({ cls := "ChantRulesModel", name := "isAhead", desc := "(III)Z" } : Jvm.MethodName)) ∈ lw_all := lw_g (lw_at lw_m9 238 rfl) rfl
theorem q2234 : (Jvm.Cond.code ({ cls := "ChantRulesModel", name := "isAhead", desc := "(III)Z" } : Jvm.MethodName) prog_19_method_56_code (5 : Nat) (Option.some Jvm.ClassFile.FieldType.boolean)) ∈ lw_all := lw_g (lw_at lw_m9 239 rfl) rfl
theorem q2236 : (Jvm.Cond.instanceMethod ({ cls := "ChantRulesModel", name := "append", desc := "(I)I" } : Jvm.MethodName)) ∈ lw_all := lw_g (lw_at lw_m10 1 rfl) rfl
theorem q2237 : (Jvm.Cond.selects "ChantRulesModel" ({ cls := "ChantRulesModel", name := "append", desc := "(I)I" } : Jvm.MethodName) ({ cls := "ChantRulesModel", name := "append", desc := "(I)I" } : Jvm.MethodName)) ∈ lw_all := lw_g (lw_at lw_m10 2 rfl) rfl
theorem q2238 : (Jvm.Cond.code ({ cls := "ChantRulesModel", name := "append", desc := "(I)I" } : Jvm.MethodName) prog_19_method_58_code (2 : Nat) (Option.some Jvm.ClassFile.FieldType.int)) ∈ lw_all := lw_g (lw_at lw_m10 3 rfl) rfl
theorem q2240 : (Jvm.Cond.instanceMethod ({ cls := "ChantRulesModel", name := "clear", desc := "()I" } : Jvm.MethodName)) ∈ lw_all := lw_g (lw_at lw_m10 5 rfl) rfl
theorem q2241 : (Jvm.Cond.selects "ChantRulesModel" ({ cls := "ChantRulesModel", name := "clear", desc := "()I" } : Jvm.MethodName) ({ cls := "ChantRulesModel", name := "clear", desc := "()I" } : Jvm.MethodName)) ∈ lw_all := lw_g (lw_at lw_m10 6 rfl) rfl
theorem q2242 : (Jvm.Cond.code ({ cls := "ChantRulesModel", name := "clear", desc := "()I" } : Jvm.MethodName) prog_19_method_59_code (2 : Nat) (Option.some Jvm.ClassFile.FieldType.int)) ∈ lw_all := lw_g (lw_at lw_m10 7 rfl) rfl
theorem q2244 : (Jvm.Cond.instanceMethod ({ cls := "ChantRulesModel", name := "run", desc := "()I" } : Jvm.MethodName)) ∈ lw_all := lw_g (lw_at lw_m10 9 rfl) rfl
theorem q2245 : (Jvm.Cond.selects "ChantRulesModel" ({ cls := "ChantRulesModel", name := "run", desc := "()I" } : Jvm.MethodName) ({ cls := "ChantRulesModel", name := "run", desc := "()I" } : Jvm.MethodName)) ∈ lw_all := lw_g (lw_at lw_m10 10 rfl) rfl
theorem q2246 : (Jvm.Cond.code ({ cls := "ChantRulesModel", name := "run", desc := "()I" } : Jvm.MethodName) prog_19_method_70_code (5 : Nat) (Option.some Jvm.ClassFile.FieldType.int)) ∈ lw_all := lw_g (lw_at lw_m10 11 rfl) rfl
theorem q2247 : (Jvm.Cond.methodLink "ChantRulesModel" (280 : Nat) ({ cls := "ChantRulesModel", name := "orders", desc := "()I" } : Jvm.MethodName)) ∈ lw_all := lw_g (lw_at lw_m10 12 rfl) rfl
theorem q2248 : (Jvm.Cond.privateMethod ({ cls := "ChantRulesModel", name := "orders", desc := "()I" } : Jvm.MethodName)) ∈ lw_tbl := lw_at lw_m10 13 rfl
theorem q2249 : (Jvm.Cond.instanceMethod ({ cls := "ChantRulesModel", name := "orders", desc := "()I" } : Jvm.MethodName)) ∈ lw_all := lw_g (lw_at lw_m10 14 rfl) rfl
theorem q2250 : (Jvm.Cond.code ({ cls := "ChantRulesModel", name := "orders", desc := "()I" } : Jvm.MethodName) prog_19_method_69_code (2 : Nat) (Option.some Jvm.ClassFile.FieldType.int)) ∈ lw_all := lw_g (lw_at lw_m10 15 rfl) rfl
theorem q2251 : (Jvm.Cond.methodLink "ChantRulesModel" (277 : Nat) ({ cls := "ChantRulesModel", name := "order", desc := "()V" } : Jvm.MethodName)) ∈ lw_all := lw_g (lw_at lw_m10 16 rfl) rfl
theorem q2252 : (Jvm.Cond.privateMethod ({ cls := "ChantRulesModel", name := "order", desc := "()V" } : Jvm.MethodName)) ∈ lw_tbl := lw_at lw_m10 17 rfl
theorem q2253 : (Jvm.Cond.instanceMethod ({ cls := "ChantRulesModel", name := "order", desc := "()V" } : Jvm.MethodName)) ∈ lw_all := lw_g (lw_at lw_m10 18 rfl) rfl
theorem q2254 : (Jvm.Cond.code ({ cls := "ChantRulesModel", name := "order", desc := "()V" } : Jvm.MethodName) prog_19_method_68_code (3 : Nat) (Option.none : Option Jvm.ClassFile.FieldType)) ∈ lw_all := lw_g (lw_at lw_m10 19 rfl) rfl
theorem q2255 : (Jvm.Cond.methodLink "ChantRulesModel" (250 : Nat) ({ cls := "ChantRulesModel", name := "next", desc := "()I" } : Jvm.MethodName)) ∈ lw_all := lw_g (lw_at lw_m10 20 rfl) rfl
theorem q2256 : (Jvm.Cond.privateMethod ({ cls := "ChantRulesModel", name := "next", desc := "()I" } : Jvm.MethodName)) ∈ lw_tbl := lw_at lw_m10 21 rfl
theorem q2257 : (Jvm.Cond.instanceMethod ({ cls := "ChantRulesModel", name := "next", desc := "()I" } : Jvm.MethodName)) ∈ lw_all := lw_g (lw_at lw_m10 22 rfl) rfl
theorem q2258 : (Jvm.Cond.code ({ cls := "ChantRulesModel", name := "next", desc := "()I" } : Jvm.MethodName) prog_19_method_60_code (1 : Nat) (Option.some Jvm.ClassFile.FieldType.int)) ∈ lw_all := lw_g (lw_at lw_m10 23 rfl) rfl
theorem q2259 : (Jvm.Cond.methodLink "ChantRulesModel" (256 : Nat) ({ cls := "ChantRulesModel", name := "digits", desc := "(I)I" } : Jvm.MethodName)) ∈ lw_all := lw_g (lw_at lw_m10 24 rfl) rfl
theorem q2260 : (Jvm.Cond.privateMethod ({ cls := "ChantRulesModel", name := "digits", desc := "(I)I" } : Jvm.MethodName)) ∈ lw_tbl := lw_at lw_m10 25 rfl
theorem q2261 : (Jvm.Cond.instanceMethod ({ cls := "ChantRulesModel", name := "digits", desc := "(I)I" } : Jvm.MethodName)) ∈ lw_all := lw_g (lw_at lw_m10 26 rfl) rfl
theorem q2262 : (Jvm.Cond.code ({ cls := "ChantRulesModel", name := "digits", desc := "(I)I" } : Jvm.MethodName) prog_19_method_62_code (4 : Nat) (Option.some Jvm.ClassFile.FieldType.int)) ∈ lw_all := lw_g (lw_at lw_m10 27 rfl) rfl
theorem q2263 : (Jvm.Cond.methodLink "ChantRulesModel" (265 : Nat) ({ cls := "ChantRulesModel", name := "endTold", desc := "()V" } : Jvm.MethodName)) ∈ lw_all := lw_g (lw_at lw_m10 28 rfl) rfl
theorem q2264 : (Jvm.Cond.privateMethod ({ cls := "ChantRulesModel", name := "endTold", desc := "()V" } : Jvm.MethodName)) ∈ lw_tbl := lw_at lw_m10 29 rfl
theorem q2265 : (Jvm.Cond.instanceMethod ({ cls := "ChantRulesModel", name := "endTold", desc := "()V" } : Jvm.MethodName)) ∈ lw_all := lw_g (lw_at lw_m10 30 rfl) rfl
theorem q2266 : (Jvm.Cond.code ({ cls := "ChantRulesModel", name := "endTold", desc := "()V" } : Jvm.MethodName) prog_19_method_66_code (2 : Nat) (Option.none : Option Jvm.ClassFile.FieldType)) ∈ lw_all := lw_g (lw_at lw_m10 31 rfl) rfl
theorem q2267 : (Jvm.Cond.methodLink "ChantRulesModel" (259 : Nat) ({ cls := "ChantRulesModel", name := "behind", desc := "(II)I" } : Jvm.MethodName)) ∈ lw_all := lw_g (lw_at lw_m10 32 rfl) rfl
theorem q2268 : (Jvm.Cond.privateMethod ({ cls := "ChantRulesModel", name := "behind", desc := "(II)I" } : Jvm.MethodName)) ∈ lw_tbl := lw_at lw_m10 33 rfl
theorem q2269 : (Jvm.Cond.instanceMethod ({ cls := "ChantRulesModel", name := "behind", desc := "(II)I" } : Jvm.MethodName)) ∈ lw_all := lw_g (lw_at lw_m10 34 rfl) rfl
theorem q2270 : (Jvm.Cond.code ({ cls := "ChantRulesModel", name := "behind", desc := "(II)I" } : Jvm.MethodName) prog_19_method_63_code (3 : Nat) (Option.some Jvm.ClassFile.FieldType.int)) ∈ lw_all := lw_g (lw_at lw_m10 35 rfl) rfl
theorem q2271 : (Jvm.Cond.methodLink "ChantRulesModel" (253 : Nat) ({ cls := "ChantRulesModel", name := "mark", desc := "(I)V" } : Jvm.MethodName)) ∈ lw_all := lw_g (lw_at lw_m10 36 rfl) rfl
theorem q2272 : (Jvm.Cond.privateMethod ({ cls := "ChantRulesModel", name := "mark", desc := "(I)V" } : Jvm.MethodName)) ∈ lw_tbl := lw_at lw_m10 37 rfl
theorem q2273 : (Jvm.Cond.instanceMethod ({ cls := "ChantRulesModel", name := "mark", desc := "(I)V" } : Jvm.MethodName)) ∈ lw_all := lw_g (lw_at lw_m10 38 rfl) rfl
theorem q2274 : (Jvm.Cond.code ({ cls := "ChantRulesModel", name := "mark", desc := "(I)V" } : Jvm.MethodName) prog_19_method_61_code (2 : Nat) (Option.none : Option Jvm.ClassFile.FieldType)) ∈ lw_all := lw_g (lw_at lw_m10 39 rfl) rfl
theorem q2275 : (Jvm.Cond.methodLink "ChantRulesModel" (268 : Nat) ({ cls := "ChantRulesModel", name := "arcTold", desc := "()V" } : Jvm.MethodName)) ∈ lw_all := lw_g (lw_at lw_m10 40 rfl) rfl
theorem q2276 : (Jvm.Cond.privateMethod ({ cls := "ChantRulesModel", name := "arcTold", desc := "()V" } : Jvm.MethodName)) ∈ lw_tbl := lw_at lw_m10 41 rfl
theorem q2277 : (Jvm.Cond.instanceMethod ({ cls := "ChantRulesModel", name := "arcTold", desc := "()V" } : Jvm.MethodName)) ∈ lw_all := lw_g (lw_at lw_m10 42 rfl) rfl
theorem q2278 : (Jvm.Cond.code ({ cls := "ChantRulesModel", name := "arcTold", desc := "()V" } : Jvm.MethodName) prog_19_method_67_code (1 : Nat) (Option.none : Option Jvm.ClassFile.FieldType)) ∈ lw_all := lw_g (lw_at lw_m10 43 rfl) rfl
theorem q2279 : (Jvm.Cond.methodLink "ChantRulesModel" (262 : Nat) ({ cls := "ChantRulesModel", name := "letterBehind", desc := "(I)I" } : Jvm.MethodName)) ∈ lw_all := lw_g (lw_at lw_m10 44 rfl) rfl
theorem q2280 : (Jvm.Cond.privateMethod ({ cls := "ChantRulesModel", name := "letterBehind", desc := "(I)I" } : Jvm.MethodName)) ∈ lw_tbl := lw_at lw_m10 45 rfl
theorem q2281 : (Jvm.Cond.instanceMethod ({ cls := "ChantRulesModel", name := "letterBehind", desc := "(I)I" } : Jvm.MethodName)) ∈ lw_all := lw_g (lw_at lw_m10 46 rfl) rfl
theorem q2282 : (Jvm.Cond.code ({ cls := "ChantRulesModel", name := "letterBehind", desc := "(I)I" } : Jvm.MethodName) prog_19_method_64_code (3 : Nat) (Option.some Jvm.ClassFile.FieldType.int)) ∈ lw_all := lw_g (lw_at lw_m10 47 rfl) rfl
theorem q2283 : (Jvm.Cond.methodLink "ChantRulesModel" (274 : Nat) ({ cls := "ChantRulesModel", name := "does", desc := "(I)I" } : Jvm.MethodName)) ∈ lw_all := lw_g (lw_at lw_m10 48 rfl) rfl
theorem q2284 : (Jvm.Cond.privateMethod ({ cls := "ChantRulesModel", name := "does", desc := "(I)I" } : Jvm.MethodName)) ∈ lw_tbl := lw_at lw_m10 49 rfl
theorem q2285 : (Jvm.Cond.instanceMethod ({ cls := "ChantRulesModel", name := "does", desc := "(I)I" } : Jvm.MethodName)) ∈ lw_all := lw_g (lw_at lw_m10 50 rfl) rfl
theorem q2286 : (Jvm.Cond.code ({ cls := "ChantRulesModel", name := "does", desc := "(I)I" } : Jvm.MethodName) prog_19_method_65_code (2 : Nat) (Option.some Jvm.ClassFile.FieldType.int)) ∈ lw_all := lw_g (lw_at lw_m10 51 rfl) rfl
theorem q2288 : (Jvm.Cond.instanceMethod ({ cls := "ChantRulesModel", name := "tell", desc := "(II)I" } : Jvm.MethodName)) ∈ lw_all := lw_g (lw_at lw_m10 53 rfl) rfl
theorem q2289 : (Jvm.Cond.selects "ChantRulesModel" ({ cls := "ChantRulesModel", name := "tell", desc := "(II)I" } : Jvm.MethodName) ({ cls := "ChantRulesModel", name := "tell", desc := "(II)I" } : Jvm.MethodName)) ∈ lw_all := lw_g (lw_at lw_m10 54 rfl) rfl
theorem q2290 : (Jvm.Cond.code ({ cls := "ChantRulesModel", name := "tell", desc := "(II)I" } : Jvm.MethodName) prog_19_method_72_code (3 : Nat) (Option.some Jvm.ClassFile.FieldType.int)) ∈ lw_all := lw_g (lw_at lw_m10 55 rfl) rfl
theorem q2291 : (Jvm.Cond.methodLink "ChantRulesModel" (286 : Nat) ({ cls := "ChantRulesModel", name := "letter", desc := "(I)I" } : Jvm.MethodName)) ∈ lw_all := lw_g (lw_at lw_m10 56 rfl) rfl
theorem q2292 : (Jvm.Cond.static ({ cls := "ChantRulesModel", name := "letter", desc := "(I)I" } : Jvm.MethodName)) ∈ lw_all := lw_g (lw_at lw_m10 57 rfl) rfl
theorem q2293 : (Jvm.Cond.code ({ cls := "ChantRulesModel", name := "letter", desc := "(I)I" } : Jvm.MethodName) prog_19_method_71_code (1 : Nat) (Option.some Jvm.ClassFile.FieldType.int)) ∈ lw_all := lw_g (lw_at lw_m10 58 rfl) rfl
theorem q2295 : (Jvm.Cond.instanceMethod ({ cls := "ChantRulesModel", name := "tellStates", desc := "(I)I" } : Jvm.MethodName)) ∈ lw_all := lw_g (lw_at lw_m10 60 rfl) rfl
theorem q2296 : (Jvm.Cond.selects "ChantRulesModel" ({ cls := "ChantRulesModel", name := "tellStates", desc := "(I)I" } : Jvm.MethodName) ({ cls := "ChantRulesModel", name := "tellStates", desc := "(I)I" } : Jvm.MethodName)) ∈ lw_all := lw_g (lw_at lw_m10 61 rfl) rfl
theorem q2297 : (Jvm.Cond.code ({ cls := "ChantRulesModel", name := "tellStates", desc := "(I)I" } : Jvm.MethodName) prog_19_method_73_code (3 : Nat) (Option.some Jvm.ClassFile.FieldType.int)) ∈ lw_all := lw_g (lw_at lw_m10 62 rfl) rfl
theorem q2299 : (Jvm.Cond.instanceMethod ({ cls := "ChantRulesModel", name := "character", desc := "(I)I" } : Jvm.MethodName)) ∈ lw_all := lw_g (lw_at lw_m10 64 rfl) rfl
theorem q2300 : (Jvm.Cond.selects "ChantRulesModel" ({ cls := "ChantRulesModel", name := "character", desc := "(I)I" } : Jvm.MethodName) ({ cls := "ChantRulesModel", name := "character", desc := "(I)I" } : Jvm.MethodName)) ∈ lw_all := lw_g (lw_at lw_m10 65 rfl) rfl
theorem q2301 : (Jvm.Cond.code ({ cls := "ChantRulesModel", name := "character", desc := "(I)I" } : Jvm.MethodName) prog_19_method_74_code (2 : Nat) (Option.some Jvm.ClassFile.FieldType.int)) ∈ lw_all := lw_g (lw_at lw_m10 66 rfl) rfl
theorem q2303 : (Jvm.Cond.instanceMethod ({ cls := "ChantRulesModel", name := "reason", desc := "(ZZ)I" } : Jvm.MethodName)) ∈ lw_all := lw_g (lw_at lw_m10 68 rfl) rfl
theorem q2304 : (Jvm.Cond.selects "ChantRulesModel" ({ cls := "ChantRulesModel", name := "reason", desc := "(ZZ)I" } : Jvm.MethodName) ({ cls := "ChantRulesModel", name := "reason", desc := "(ZZ)I" } : Jvm.MethodName)) ∈ lw_all := lw_g (lw_at lw_m10 69 rfl) rfl
theorem q2305 : (Jvm.Cond.code ({ cls := "ChantRulesModel", name := "reason", desc := "(ZZ)I" } : Jvm.MethodName) prog_19_method_75_code (4 : Nat) (Option.some Jvm.ClassFile.FieldType.int)) ∈ lw_all := lw_g (lw_at lw_m10 70 rfl) rfl
theorem q2307 : (Jvm.Cond.instanceMethod ({ cls := "ChantRulesModel", name := "account", desc := "(I)I" } : Jvm.MethodName)) ∈ lw_all := lw_g (lw_at lw_m10 72 rfl) rfl
theorem q2308 : (Jvm.Cond.selects "ChantRulesModel" ({ cls := "ChantRulesModel", name := "account", desc := "(I)I" } : Jvm.MethodName) ({ cls := "ChantRulesModel", name := "account", desc := "(I)I" } : Jvm.MethodName)) ∈ lw_all := lw_g (lw_at lw_m10 73 rfl) rfl
theorem q2309 : (Jvm.Cond.code ({ cls := "ChantRulesModel", name := "account", desc := "(I)I" } : Jvm.MethodName) prog_19_method_77_code (2 : Nat) (Option.some Jvm.ClassFile.FieldType.int)) ∈ lw_all := lw_g (lw_at lw_m10 74 rfl) rfl
theorem q2310 : (Jvm.Cond.methodLink "ChantRulesModel" (289 : Nat) ({ cls := "ChantRulesModel", name := "ofArcs", desc := "(I)I" } : Jvm.MethodName)) ∈ lw_all := lw_g (lw_at lw_m10 75 rfl) rfl
theorem q2311 : (Jvm.Cond.privateMethod ({ cls := "ChantRulesModel", name := "ofArcs", desc := "(I)I" } : Jvm.MethodName)) ∈ lw_tbl := lw_at lw_m10 76 rfl
theorem q2312 : (Jvm.Cond.instanceMethod ({ cls := "ChantRulesModel", name := "ofArcs", desc := "(I)I" } : Jvm.MethodName)) ∈ lw_all := lw_g (lw_at lw_m10 77 rfl) rfl
theorem q2313 : (Jvm.Cond.code ({ cls := "ChantRulesModel", name := "ofArcs", desc := "(I)I" } : Jvm.MethodName) prog_19_method_76_code (5 : Nat) (Option.some Jvm.ClassFile.FieldType.int)) ∈ lw_all := lw_g (lw_at lw_m10 78 rfl) rfl
theorem q2315 : (Jvm.Cond.instanceMethod ({ cls := "ChantRulesModel", name := "isBalanced", desc := "()I" } : Jvm.MethodName)) ∈ lw_all := lw_g (lw_at lw_m10 80 rfl) rfl
theorem q2316 : (Jvm.Cond.selects "ChantRulesModel" ({ cls := "ChantRulesModel", name := "isBalanced", desc := "()I" } : Jvm.MethodName) ({ cls := "ChantRulesModel", name := "isBalanced", desc := "()I" } : Jvm.MethodName)) ∈ lw_all := lw_g (lw_at lw_m10 81 rfl) rfl
theorem q2317 : (Jvm.Cond.code ({ cls := "ChantRulesModel", name := "isBalanced", desc := "()I" } : Jvm.MethodName) prog_19_method_78_code (1 : Nat) (Option.some Jvm.ClassFile.FieldType.int)) ∈ lw_all := lw_g (lw_at lw_m10 82 rfl) rfl
theorem q2319 : (Jvm.Cond.instanceMethod ({ cls := "ChantRulesModel", name := "meanWeight", desc := "()D" } : Jvm.MethodName)) ∈ lw_all := lw_g (lw_at lw_m10 84 rfl) rfl
theorem q2320 : (Jvm.Cond.selects "ChantRulesModel" ({ cls := "ChantRulesModel", name := "meanWeight", desc := "()D" } : Jvm.MethodName) ({ cls := "ChantRulesModel", name := "meanWeight", desc := "()D" } : Jvm.MethodName)) ∈ lw_all := lw_g (lw_at lw_m10 85 rfl) rfl
theorem q2321 : (Jvm.Cond.code ({ cls := "ChantRulesModel", name := "meanWeight", desc := "()D" } : Jvm.MethodName) prog_19_method_79_code (2 : Nat) (Option.some Jvm.ClassFile.FieldType.double)) ∈ lw_all := lw_g (lw_at lw_m10 86 rfl) rfl
theorem q2323 : (Jvm.Cond.instanceMethod ({ cls := "ChantRulesModel", name := "usefulShare", desc := "()F" } : Jvm.MethodName)) ∈ lw_all := lw_g (lw_at lw_m10 88 rfl) rfl
theorem q2324 : (Jvm.Cond.selects "ChantRulesModel" ({ cls := "ChantRulesModel", name := "usefulShare", desc := "()F" } : Jvm.MethodName) ({ cls := "ChantRulesModel", name := "usefulShare", desc := "()F" } : Jvm.MethodName)) ∈ lw_all := lw_g (lw_at lw_m10 89 rfl) rfl
theorem q2325 : (Jvm.Cond.code ({ cls := "ChantRulesModel", name := "usefulShare", desc := "()F" } : Jvm.MethodName) prog_19_method_80_code (4 : Nat) (Option.some Jvm.ClassFile.FieldType.float)) ∈ lw_all := lw_g (lw_at lw_m10 90 rfl) rfl
theorem q2327 : (Jvm.Cond.instanceMethod ({ cls := "ChantRulesModel", name := "undo", desc := "()I" } : Jvm.MethodName)) ∈ lw_all := lw_g (lw_at lw_m10 92 rfl) rfl
theorem q2328 : (Jvm.Cond.selects "ChantRulesModel" ({ cls := "ChantRulesModel", name := "undo", desc := "()I" } : Jvm.MethodName) ({ cls := "ChantRulesModel", name := "undo", desc := "()I" } : Jvm.MethodName)) ∈ lw_all := lw_g (lw_at lw_m10 93 rfl) rfl
theorem q2329 : (Jvm.Cond.code ({ cls := "ChantRulesModel", name := "undo", desc := "()I" } : Jvm.MethodName) prog_19_method_81_code (2 : Nat) (Option.some Jvm.ClassFile.FieldType.int)) ∈ lw_all := lw_g (lw_at lw_m10 94 rfl) rfl
theorem q2331 : (Jvm.Cond.instanceMethod ({ cls := "ChantRulesModel", name := "save", desc := "()I" } : Jvm.MethodName)) ∈ lw_all := lw_g (lw_at lw_m10 96 rfl) rfl
theorem q2332 : (Jvm.Cond.selects "ChantRulesModel" ({ cls := "ChantRulesModel", name := "save", desc := "()I" } : Jvm.MethodName) ({ cls := "ChantRulesModel", name := "save", desc := "()I" } : Jvm.MethodName)) ∈ lw_all := lw_g (lw_at lw_m10 97 rfl) rfl
theorem q2333 : (Jvm.Cond.code ({ cls := "ChantRulesModel", name := "save", desc := "()I" } : Jvm.MethodName) prog_19_method_82_code (1 : Nat) (Option.some Jvm.ClassFile.FieldType.int)) ∈ lw_all := lw_g (lw_at lw_m10 98 rfl) rfl
theorem q2335 : (Jvm.Cond.instanceMethod ({ cls := "ChantRulesModel", name := "restore", desc := "()I" } : Jvm.MethodName)) ∈ lw_all := lw_g (lw_at lw_m10 100 rfl) rfl
theorem q2336 : (Jvm.Cond.selects "ChantRulesModel" ({ cls := "ChantRulesModel", name := "restore", desc := "()I" } : Jvm.MethodName) ({ cls := "ChantRulesModel", name := "restore", desc := "()I" } : Jvm.MethodName)) ∈ lw_all := lw_g (lw_at lw_m10 101 rfl) rfl
theorem q2337 : (Jvm.Cond.code ({ cls := "ChantRulesModel", name := "restore", desc := "()I" } : Jvm.MethodName) prog_19_method_83_code (1 : Nat) (Option.some Jvm.ClassFile.FieldType.int)) ∈ lw_all := lw_g (lw_at lw_m10 102 rfl) rfl
theorem q2372 : (Jvm.Cond.castable "ChantRulesModel" "java/lang/Object") ∈ lw_tbl := lw_at lw_m10 137 rfl
theorem in_X5 : ∀ w ∈ wsX50, w ∈ lw_all := lw_in wsX50 [1940, 1942, 1944, 1946, 1948, 1950, 1952, 1954, 1956, 1958, 1960, 1962, 1964, 1966, 1968, 1970, 1972, 1974, 1976, 1978, 1980, 1982, 1984, 1986, 1988, 1990, 1992, 1994, 1996, 1998, 2000, 2002, 2004, 2006, 2008, 2010, 2012] (by decide +kernel) (by decide +kernel)
