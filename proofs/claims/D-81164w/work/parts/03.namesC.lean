/-! ClauseCourt -/
set_option maxRecDepth 100000
def RX0 : String := "ClauseCourt"
def TX0 : u_T := fun k => match k with
  | 0 => ("ClauseCourt", "status", "I", false)
  | 1 => ("ClauseCourt", "name", "[LClauseCourt$Name;", true)
  | 2 => ("ClauseCourt", "names", "I", false)
  | 3 => ("ClauseCourt", "stamp", "I", false)
  | 4 => ("ClauseCourt", "paper", "[[I", true)
  | 5 => ("ClauseCourt", "tape", "[B", true)
  | 6 => ("ClauseCourt", "typed", "I", false)
  | 7 => ("ClauseCourt", "trace", "[I", true)
  | 8 => ("ClauseCourt", "traced", "I", false)
  | 9 => ("ClauseCourt", "out", "[B", true)
  | 10 => ("ClauseCourt", "written", "I", false)
  | 11 => ("ClauseCourt", "planned", "[I", true)
  | 12 => ("ClauseCourt", "plannedEnd", "[I", true)
  | 13 => ("ClauseCourt", "plannedRows", "I", false)
  | 14 => ("ClauseCourt", "plannedItems", "I", false)
  | 15 => ("ClauseCourt", "plannedNames", "I", false)
  | 16 => ("ClauseCourt", "caseItem", "[I", true)
  | 17 => ("ClauseCourt", "caseFrom", "[I", true)
  | 18 => ("ClauseCourt", "caseRows", "I", false)
  | 19 => ("ClauseCourt", "rule", "[LClauseCourt$Rule;", true)
  | 20 => ("ClauseCourt", "rules", "I", false)
  | 21 => ("ClauseCourt", "main", "LClauseCourt$Engine;", true)
  | 22 => ("ClauseCourt", "side", "LClauseCourt$Engine;", true)
  | 23 => ("ClauseCourt", "truth", "LClauseCourt$Truth;", true)
  | 24 => ("ClauseCourt", "assumed", "[I", true)
  | 25 => ("ClauseCourt", "assumes", "I", false)
  | 26 => ("ClauseCourt", "unit", "I", false)
  | 27 => ("ClauseCourt", "mostLearnt", "I", false)
  | 28 => ("ClauseCourt", "isCut", "Z", false)
  | 29 => ("ClauseCourt", "isNext", "Z", false)
  | 30 => ("ClauseCourt", "cutStamp", "I", false)
  | 31 => ("ClauseCourt", "barItem", "[I", true)
  | 32 => ("ClauseCourt", "barFrom", "[I", true)
  | 33 => ("ClauseCourt", "bars", "I", false)
  | 34 => ("ClauseCourt", "without", "[Z", true)
  | 35 => ("ClauseCourt", "proofItem", "[I", true)
  | 36 => ("ClauseCourt", "proofFrom", "[I", true)
  | 37 => ("ClauseCourt", "proofs", "I", false)
  | 38 => ("ClauseCourt", "refusedAt", "I", false)
  | 39 => ("ClauseCourt", "ownItem", "[I", true)
  | 40 => ("ClauseCourt", "ownFrom", "[I", true)
  | _ => ("ClauseCourt", "sum", "J", false)
def tyX0 : Nat → FieldType := fun k => match k with
  | 0 => .int
  | 1 => .array (.object "ClauseCourt$Name")
  | 2 => .int
  | 3 => .int
  | 4 => .array (.array .int)
  | 5 => .array .byte
  | 6 => .int
  | 7 => .array .int
  | 8 => .int
  | 9 => .array .byte
  | 10 => .int
  | 11 => .array .int
  | 12 => .array .int
  | 13 => .int
  | 14 => .int
  | 15 => .int
  | 16 => .array .int
  | 17 => .array .int
  | 18 => .int
  | 19 => .array (.object "ClauseCourt$Rule")
  | 20 => .int
  | 21 => .object "ClauseCourt$Engine"
  | 22 => .object "ClauseCourt$Engine"
  | 23 => .object "ClauseCourt$Truth"
  | 24 => .array .int
  | 25 => .int
  | 26 => .int
  | 27 => .int
  | 28 => .boolean
  | 29 => .boolean
  | 30 => .int
  | 31 => .array .int
  | 32 => .array .int
  | 33 => .int
  | 34 => .array .boolean
  | 35 => .array .int
  | 36 => .array .int
  | 37 => .int
  | 38 => .int
  | 39 => .array .int
  | 40 => .array .int
  | _ => .long
abbrev wsX00 : List Cond := u_ws RX0 TX0 42
set_option maxRecDepth 100000 in
theorem nmX0 : ∀ a, a < 42 → ∀ b, b < 42 → a ≠ b → (TX0 a).2.1 ≠ (TX0 b).2.1 := by decide +kernel
set_option maxRecDepth 100000 in
theorem tyX0_ok : ∀ k, k < 42 → parseFieldDescriptor (TX0 k).2.2.1 = some (tyX0 k) := by decide +kernel
abbrev cX0_init : ByteArray := prog_1_method_1_code
def yX0_init : MethodName := ⟨RX0, "<init>", "()V"⟩
def dkwX0_init_8 : List UInt8 := [17, 5, 0, 188, 10, 181, 0, 91, 42, 16, 65, 188, 10, 181, 0, 94, 177]
abbrev dktX0_init_8 : List UInt8 := dkwX0_init_8 ++ []
def dkwX0_init_7 : List UInt8 := [188, 10, 181, 0, 81, 42, 17, 3, 33, 188, 10, 181, 0, 84, 42, 17, 252, 19, 181, 0, 87, 42]
abbrev dktX0_init_7 : List UInt8 := dkwX0_init_7 ++ dktX0_init_8
def dkwX0_init_6 : List UInt8 := [181, 0, 71, 42, 16, 65, 188, 10, 181, 0, 74, 42, 17, 1, 244, 188, 4, 181, 0, 77, 42, 17, 31, 64]
abbrev dktX0_init_6 : List UInt8 := dkwX0_init_6 ++ dktX0_init_7
def dkwX0_init_5 : List UInt8 := [187, 0, 61, 89, 183, 0, 63, 181, 0, 64, 42, 16, 20, 188, 10, 181, 0, 68, 42, 17, 5, 0, 188, 10]
abbrev dktX0_init_5 : List UInt8 := dkwX0_init_5 ++ dktX0_init_6
def dkwX0_init_4 : List UInt8 := [187, 0, 49, 89, 42, 183, 0, 51, 181, 0, 54, 42, 187, 0, 49, 89, 42, 183, 0, 51, 181, 0, 58, 42]
abbrev dktX0_init_4 : List UInt8 := dkwX0_init_4 ++ dktX0_init_5
def dkwX0_init_3 : List UInt8 := [181, 0, 37, 42, 17, 1, 245, 188, 10, 181, 0, 40, 42, 16, 60, 189, 0, 43, 181, 0, 45, 42]
abbrev dktX0_init_3 : List UInt8 := dkwX0_init_3 ++ dktX0_init_4
def dkwX0_init_2 : List UInt8 := [42, 17, 23, 112, 188, 10, 181, 0, 31, 42, 17, 2, 188, 188, 10, 181, 0, 34, 42, 17, 9, 196, 188, 10]
abbrev dktX0_init_2 : List UInt8 := dkwX0_init_2 ++ dktX0_init_3
def dkwX0_init_1 : List UInt8 := [16, 60, 188, 8, 181, 0, 21, 42, 16, 100, 188, 10, 181, 0, 25, 42, 17, 54, 176, 188, 8, 181, 0, 28]
abbrev dktX0_init_1 : List UInt8 := dkwX0_init_1 ++ dktX0_init_2
def dkwX0_init_0 : List UInt8 := [42, 183, 0, 3, 42, 17, 1, 44, 189, 0, 9, 181, 0, 11, 42, 16, 40, 189, 0, 15, 181, 0, 17, 42]
abbrev dktX0_init_0 : List UInt8 := dkwX0_init_0 ++ dktX0_init_1
theorem dksX0_init_0 : cX0_init.data.toList.drop 0 = dktX0_init_0 := by decide +kernel
theorem dksX0_init_1 : cX0_init.data.toList.drop 24 = dktX0_init_1 := dk_seg dksX0_init_0 24 rfl rfl
theorem dksX0_init_2 : cX0_init.data.toList.drop 48 = dktX0_init_2 := dk_seg dksX0_init_1 24 rfl rfl
theorem dksX0_init_3 : cX0_init.data.toList.drop 72 = dktX0_init_3 := dk_seg dksX0_init_2 24 rfl rfl
theorem dksX0_init_4 : cX0_init.data.toList.drop 94 = dktX0_init_4 := dk_seg dksX0_init_3 22 rfl rfl
theorem dksX0_init_5 : cX0_init.data.toList.drop 118 = dktX0_init_5 := dk_seg dksX0_init_4 24 rfl rfl
theorem dksX0_init_6 : cX0_init.data.toList.drop 142 = dktX0_init_6 := dk_seg dksX0_init_5 24 rfl rfl
theorem dksX0_init_7 : cX0_init.data.toList.drop 166 = dktX0_init_7 := dk_seg dksX0_init_6 24 rfl rfl
theorem dksX0_init_8 : cX0_init.data.toList.drop 188 = dktX0_init_8 := dk_seg dksX0_init_7 22 rfl rfl
theorem dX0_init_0 : decode cX0_init 0 = .ok (.aload_n 0, 1) := dk_42 (dk_at dksX0_init_0 0 rfl rfl)
theorem dX0_init_1 : decode cX0_init 1 = .ok (.invokespecial 3, 3) := dk_183 0 3 (dk_at dksX0_init_0 1 rfl rfl)
theorem dX0_init_4 : decode cX0_init 4 = .ok (.aload_n 0, 1) := dk_42 (dk_at dksX0_init_0 4 rfl rfl)
theorem dX0_init_5 : decode cX0_init 5 = .ok (.sipush 300, 3) := dk_17 1 44 (dk_at dksX0_init_0 5 rfl rfl)
theorem dX0_init_8 : decode cX0_init 8 = .ok (.anewarray 9, 3) := dk_189 0 9 (dk_at dksX0_init_0 8 rfl rfl)
theorem dX0_init_11 : decode cX0_init 11 = .ok (.putfield 11, 3) := dk_181 0 11 (dk_at dksX0_init_0 11 rfl rfl)
theorem dX0_init_14 : decode cX0_init 14 = .ok (.aload_n 0, 1) := dk_42 (dk_at dksX0_init_0 14 rfl rfl)
theorem dX0_init_15 : decode cX0_init 15 = .ok (.bipush 40, 2) := dk_16 40 (dk_at dksX0_init_0 15 rfl rfl)
theorem dX0_init_17 : decode cX0_init 17 = .ok (.anewarray 15, 3) := dk_189 0 15 (dk_at dksX0_init_0 17 rfl rfl)
theorem dX0_init_20 : decode cX0_init 20 = .ok (.putfield 17, 3) := dk_181 0 17 (dk_at dksX0_init_0 20 rfl rfl)
theorem dX0_init_23 : decode cX0_init 23 = .ok (.aload_n 0, 1) := dk_42 (dk_at dksX0_init_0 23 rfl rfl)
theorem dX0_init_24 : decode cX0_init 24 = .ok (.bipush 60, 2) := dk_16 60 (dk_at dksX0_init_1 0 rfl rfl)
theorem dX0_init_26 : decode cX0_init 26 = .ok (.newarray .byte, 2) := dk_188_8 (dk_at dksX0_init_1 2 rfl rfl)
theorem dX0_init_28 : decode cX0_init 28 = .ok (.putfield 21, 3) := dk_181 0 21 (dk_at dksX0_init_1 4 rfl rfl)
theorem dX0_init_31 : decode cX0_init 31 = .ok (.aload_n 0, 1) := dk_42 (dk_at dksX0_init_1 7 rfl rfl)
theorem dX0_init_32 : decode cX0_init 32 = .ok (.bipush 100, 2) := dk_16 100 (dk_at dksX0_init_1 8 rfl rfl)
theorem dX0_init_34 : decode cX0_init 34 = .ok (.newarray .int, 2) := dk_188_10 (dk_at dksX0_init_1 10 rfl rfl)
theorem dX0_init_36 : decode cX0_init 36 = .ok (.putfield 25, 3) := dk_181 0 25 (dk_at dksX0_init_1 12 rfl rfl)
theorem dX0_init_39 : decode cX0_init 39 = .ok (.aload_n 0, 1) := dk_42 (dk_at dksX0_init_1 15 rfl rfl)
theorem dX0_init_40 : decode cX0_init 40 = .ok (.sipush 14000, 3) := dk_17 54 176 (dk_at dksX0_init_1 16 rfl rfl)
theorem dX0_init_43 : decode cX0_init 43 = .ok (.newarray .byte, 2) := dk_188_8 (dk_at dksX0_init_1 19 rfl rfl)
theorem dX0_init_45 : decode cX0_init 45 = .ok (.putfield 28, 3) := dk_181 0 28 (dk_at dksX0_init_1 21 rfl rfl)
theorem dX0_init_48 : decode cX0_init 48 = .ok (.aload_n 0, 1) := dk_42 (dk_at dksX0_init_2 0 rfl rfl)
theorem dX0_init_49 : decode cX0_init 49 = .ok (.sipush 6000, 3) := dk_17 23 112 (dk_at dksX0_init_2 1 rfl rfl)
theorem dX0_init_52 : decode cX0_init 52 = .ok (.newarray .int, 2) := dk_188_10 (dk_at dksX0_init_2 4 rfl rfl)
theorem dX0_init_54 : decode cX0_init 54 = .ok (.putfield 31, 3) := dk_181 0 31 (dk_at dksX0_init_2 6 rfl rfl)
theorem dX0_init_57 : decode cX0_init 57 = .ok (.aload_n 0, 1) := dk_42 (dk_at dksX0_init_2 9 rfl rfl)
theorem dX0_init_58 : decode cX0_init 58 = .ok (.sipush 700, 3) := dk_17 2 188 (dk_at dksX0_init_2 10 rfl rfl)
theorem dX0_init_61 : decode cX0_init 61 = .ok (.newarray .int, 2) := dk_188_10 (dk_at dksX0_init_2 13 rfl rfl)
theorem dX0_init_63 : decode cX0_init 63 = .ok (.putfield 34, 3) := dk_181 0 34 (dk_at dksX0_init_2 15 rfl rfl)
theorem dX0_init_66 : decode cX0_init 66 = .ok (.aload_n 0, 1) := dk_42 (dk_at dksX0_init_2 18 rfl rfl)
theorem dX0_init_67 : decode cX0_init 67 = .ok (.sipush 2500, 3) := dk_17 9 196 (dk_at dksX0_init_2 19 rfl rfl)
theorem dX0_init_70 : decode cX0_init 70 = .ok (.newarray .int, 2) := dk_188_10 (dk_at dksX0_init_2 22 rfl rfl)
theorem dX0_init_72 : decode cX0_init 72 = .ok (.putfield 37, 3) := dk_181 0 37 (dk_at dksX0_init_3 0 rfl rfl)
theorem dX0_init_75 : decode cX0_init 75 = .ok (.aload_n 0, 1) := dk_42 (dk_at dksX0_init_3 3 rfl rfl)
theorem dX0_init_76 : decode cX0_init 76 = .ok (.sipush 501, 3) := dk_17 1 245 (dk_at dksX0_init_3 4 rfl rfl)
theorem dX0_init_79 : decode cX0_init 79 = .ok (.newarray .int, 2) := dk_188_10 (dk_at dksX0_init_3 7 rfl rfl)
theorem dX0_init_81 : decode cX0_init 81 = .ok (.putfield 40, 3) := dk_181 0 40 (dk_at dksX0_init_3 9 rfl rfl)
theorem dX0_init_84 : decode cX0_init 84 = .ok (.aload_n 0, 1) := dk_42 (dk_at dksX0_init_3 12 rfl rfl)
theorem dX0_init_85 : decode cX0_init 85 = .ok (.bipush 60, 2) := dk_16 60 (dk_at dksX0_init_3 13 rfl rfl)
theorem dX0_init_87 : decode cX0_init 87 = .ok (.anewarray 43, 3) := dk_189 0 43 (dk_at dksX0_init_3 15 rfl rfl)
theorem dX0_init_90 : decode cX0_init 90 = .ok (.putfield 45, 3) := dk_181 0 45 (dk_at dksX0_init_3 18 rfl rfl)
theorem dX0_init_93 : decode cX0_init 93 = .ok (.aload_n 0, 1) := dk_42 (dk_at dksX0_init_3 21 rfl rfl)
theorem dX0_init_94 : decode cX0_init 94 = .ok (.new 49, 3) := dk_187 0 49 (dk_at dksX0_init_4 0 rfl rfl)
theorem dX0_init_97 : decode cX0_init 97 = .ok (.dup, 1) := dk_89 (dk_at dksX0_init_4 3 rfl rfl)
theorem dX0_init_98 : decode cX0_init 98 = .ok (.aload_n 0, 1) := dk_42 (dk_at dksX0_init_4 4 rfl rfl)
theorem dX0_init_99 : decode cX0_init 99 = .ok (.invokespecial 51, 3) := dk_183 0 51 (dk_at dksX0_init_4 5 rfl rfl)
theorem dX0_init_102 : decode cX0_init 102 = .ok (.putfield 54, 3) := dk_181 0 54 (dk_at dksX0_init_4 8 rfl rfl)
theorem dX0_init_105 : decode cX0_init 105 = .ok (.aload_n 0, 1) := dk_42 (dk_at dksX0_init_4 11 rfl rfl)
theorem dX0_init_106 : decode cX0_init 106 = .ok (.new 49, 3) := dk_187 0 49 (dk_at dksX0_init_4 12 rfl rfl)
theorem dX0_init_109 : decode cX0_init 109 = .ok (.dup, 1) := dk_89 (dk_at dksX0_init_4 15 rfl rfl)
theorem dX0_init_110 : decode cX0_init 110 = .ok (.aload_n 0, 1) := dk_42 (dk_at dksX0_init_4 16 rfl rfl)
theorem dX0_init_111 : decode cX0_init 111 = .ok (.invokespecial 51, 3) := dk_183 0 51 (dk_at dksX0_init_4 17 rfl rfl)
theorem dX0_init_114 : decode cX0_init 114 = .ok (.putfield 58, 3) := dk_181 0 58 (dk_at dksX0_init_4 20 rfl rfl)
theorem dX0_init_117 : decode cX0_init 117 = .ok (.aload_n 0, 1) := dk_42 (dk_at dksX0_init_4 23 rfl rfl)
theorem dX0_init_118 : decode cX0_init 118 = .ok (.new 61, 3) := dk_187 0 61 (dk_at dksX0_init_5 0 rfl rfl)
theorem dX0_init_121 : decode cX0_init 121 = .ok (.dup, 1) := dk_89 (dk_at dksX0_init_5 3 rfl rfl)
theorem dX0_init_122 : decode cX0_init 122 = .ok (.invokespecial 63, 3) := dk_183 0 63 (dk_at dksX0_init_5 4 rfl rfl)
theorem dX0_init_125 : decode cX0_init 125 = .ok (.putfield 64, 3) := dk_181 0 64 (dk_at dksX0_init_5 7 rfl rfl)
theorem dX0_init_128 : decode cX0_init 128 = .ok (.aload_n 0, 1) := dk_42 (dk_at dksX0_init_5 10 rfl rfl)
theorem dX0_init_129 : decode cX0_init 129 = .ok (.bipush 20, 2) := dk_16 20 (dk_at dksX0_init_5 11 rfl rfl)
theorem dX0_init_131 : decode cX0_init 131 = .ok (.newarray .int, 2) := dk_188_10 (dk_at dksX0_init_5 13 rfl rfl)
theorem dX0_init_133 : decode cX0_init 133 = .ok (.putfield 68, 3) := dk_181 0 68 (dk_at dksX0_init_5 15 rfl rfl)
theorem dX0_init_136 : decode cX0_init 136 = .ok (.aload_n 0, 1) := dk_42 (dk_at dksX0_init_5 18 rfl rfl)
theorem dX0_init_137 : decode cX0_init 137 = .ok (.sipush 1280, 3) := dk_17 5 0 (dk_at dksX0_init_5 19 rfl rfl)
theorem dX0_init_140 : decode cX0_init 140 = .ok (.newarray .int, 2) := dk_188_10 (dk_at dksX0_init_5 22 rfl rfl)
theorem dX0_init_142 : decode cX0_init 142 = .ok (.putfield 71, 3) := dk_181 0 71 (dk_at dksX0_init_6 0 rfl rfl)
theorem dX0_init_145 : decode cX0_init 145 = .ok (.aload_n 0, 1) := dk_42 (dk_at dksX0_init_6 3 rfl rfl)
theorem dX0_init_146 : decode cX0_init 146 = .ok (.bipush 65, 2) := dk_16 65 (dk_at dksX0_init_6 4 rfl rfl)
theorem dX0_init_148 : decode cX0_init 148 = .ok (.newarray .int, 2) := dk_188_10 (dk_at dksX0_init_6 6 rfl rfl)
theorem dX0_init_150 : decode cX0_init 150 = .ok (.putfield 74, 3) := dk_181 0 74 (dk_at dksX0_init_6 8 rfl rfl)
theorem dX0_init_153 : decode cX0_init 153 = .ok (.aload_n 0, 1) := dk_42 (dk_at dksX0_init_6 11 rfl rfl)
theorem dX0_init_154 : decode cX0_init 154 = .ok (.sipush 500, 3) := dk_17 1 244 (dk_at dksX0_init_6 12 rfl rfl)
theorem dX0_init_157 : decode cX0_init 157 = .ok (.newarray .boolean, 2) := dk_188_4 (dk_at dksX0_init_6 15 rfl rfl)
theorem dX0_init_159 : decode cX0_init 159 = .ok (.putfield 77, 3) := dk_181 0 77 (dk_at dksX0_init_6 17 rfl rfl)
theorem dX0_init_162 : decode cX0_init 162 = .ok (.aload_n 0, 1) := dk_42 (dk_at dksX0_init_6 20 rfl rfl)
theorem dX0_init_163 : decode cX0_init 163 = .ok (.sipush 8000, 3) := dk_17 31 64 (dk_at dksX0_init_6 21 rfl rfl)
theorem dX0_init_166 : decode cX0_init 166 = .ok (.newarray .int, 2) := dk_188_10 (dk_at dksX0_init_7 0 rfl rfl)
theorem dX0_init_168 : decode cX0_init 168 = .ok (.putfield 81, 3) := dk_181 0 81 (dk_at dksX0_init_7 2 rfl rfl)
theorem dX0_init_171 : decode cX0_init 171 = .ok (.aload_n 0, 1) := dk_42 (dk_at dksX0_init_7 5 rfl rfl)
theorem dX0_init_172 : decode cX0_init 172 = .ok (.sipush 801, 3) := dk_17 3 33 (dk_at dksX0_init_7 6 rfl rfl)
theorem dX0_init_175 : decode cX0_init 175 = .ok (.newarray .int, 2) := dk_188_10 (dk_at dksX0_init_7 9 rfl rfl)
theorem dX0_init_177 : decode cX0_init 177 = .ok (.putfield 84, 3) := dk_181 0 84 (dk_at dksX0_init_7 11 rfl rfl)
theorem dX0_init_180 : decode cX0_init 180 = .ok (.aload_n 0, 1) := dk_42 (dk_at dksX0_init_7 14 rfl rfl)
theorem dX0_init_181 : decode cX0_init 181 = .ok (.sipush (-1005), 3) := dk_17 252 19 (dk_at dksX0_init_7 15 rfl rfl)
theorem dX0_init_184 : decode cX0_init 184 = .ok (.putfield 87, 3) := dk_181 0 87 (dk_at dksX0_init_7 18 rfl rfl)
theorem dX0_init_187 : decode cX0_init 187 = .ok (.aload_n 0, 1) := dk_42 (dk_at dksX0_init_7 21 rfl rfl)
theorem dX0_init_188 : decode cX0_init 188 = .ok (.sipush 1280, 3) := dk_17 5 0 (dk_at dksX0_init_8 0 rfl rfl)
theorem dX0_init_191 : decode cX0_init 191 = .ok (.newarray .int, 2) := dk_188_10 (dk_at dksX0_init_8 3 rfl rfl)
theorem dX0_init_193 : decode cX0_init 193 = .ok (.putfield 91, 3) := dk_181 0 91 (dk_at dksX0_init_8 5 rfl rfl)
theorem dX0_init_196 : decode cX0_init 196 = .ok (.aload_n 0, 1) := dk_42 (dk_at dksX0_init_8 8 rfl rfl)
theorem dX0_init_197 : decode cX0_init 197 = .ok (.bipush 65, 2) := dk_16 65 (dk_at dksX0_init_8 9 rfl rfl)
theorem dX0_init_199 : decode cX0_init 199 = .ok (.newarray .int, 2) := dk_188_10 (dk_at dksX0_init_8 11 rfl rfl)
theorem dX0_init_201 : decode cX0_init 201 = .ok (.putfield 94, 3) := dk_181 0 94 (dk_at dksX0_init_8 13 rfl rfl)
theorem dX0_init_204 : decode cX0_init 204 = .ok (.return_, 1) := dk_177 (dk_at dksX0_init_8 16 rfl rfl)
abbrev cX0_names : ByteArray := prog_1_method_7_code
def yX0_names : MethodName := ⟨RX0, "names", "(I)I"⟩
def dkwX0_names_2 : List UInt8 := [180, 0, 100, 172]
abbrev dktX0_names_2 : List UInt8 := dkwX0_names_2 ++ []
def dkwX0_names_1 : List UInt8 := [27, 96, 17, 1, 44, 164, 0, 11, 42, 17, 252, 21, 182, 0, 124, 172, 42, 27, 182, 0, 127, 42]
abbrev dktX0_names_1 : List UInt8 := dkwX0_names_1 ++ dktX0_names_2
def dkwX0_names_0 : List UInt8 := [27, 133, 9, 20, 0, 122, 184, 0, 109, 154, 0, 11, 42, 17, 252, 23, 182, 0, 124, 172, 42, 180, 0, 100]
abbrev dktX0_names_0 : List UInt8 := dkwX0_names_0 ++ dktX0_names_1
theorem dksX0_names_0 : cX0_names.data.toList.drop 0 = dktX0_names_0 := by decide +kernel
theorem dksX0_names_1 : cX0_names.data.toList.drop 24 = dktX0_names_1 := dk_seg dksX0_names_0 24 rfl rfl
theorem dksX0_names_2 : cX0_names.data.toList.drop 46 = dktX0_names_2 := dk_seg dksX0_names_1 22 rfl rfl
theorem dX0_names_0 : decode cX0_names 0 = .ok (.iload_n 1, 1) := dk_27 (dk_at dksX0_names_0 0 rfl rfl)
theorem dX0_names_1 : decode cX0_names 1 = .ok (.i2l, 1) := dk_133 (dk_at dksX0_names_0 1 rfl rfl)
theorem dX0_names_2 : decode cX0_names 2 = .ok (.lconst 0, 1) := dk_9 (dk_at dksX0_names_0 2 rfl rfl)
theorem dX0_names_3 : decode cX0_names 3 = .ok (.ldc2_w 122, 3) := dk_20 0 122 (dk_at dksX0_names_0 3 rfl rfl)
theorem dX0_names_6 : decode cX0_names 6 = .ok (.invokestatic 109, 3) := dk_184 0 109 (dk_at dksX0_names_0 6 rfl rfl)
theorem dX0_names_9 : decode cX0_names 9 = .ok (.ifCond .ne 11, 3) := dk_154 0 11 (dk_at dksX0_names_0 9 rfl rfl)
theorem dX0_names_12 : decode cX0_names 12 = .ok (.aload_n 0, 1) := dk_42 (dk_at dksX0_names_0 12 rfl rfl)
theorem dX0_names_13 : decode cX0_names 13 = .ok (.sipush (-1001), 3) := dk_17 252 23 (dk_at dksX0_names_0 13 rfl rfl)
theorem dX0_names_16 : decode cX0_names 16 = .ok (.invokevirtual 124, 3) := dk_182 0 124 (dk_at dksX0_names_0 16 rfl rfl)
theorem dX0_names_19 : decode cX0_names 19 = .ok (.ireturn, 1) := dk_172 (dk_at dksX0_names_0 19 rfl rfl)
theorem dX0_names_20 : decode cX0_names 20 = .ok (.aload_n 0, 1) := dk_42 (dk_at dksX0_names_0 20 rfl rfl)
theorem dX0_names_21 : decode cX0_names 21 = .ok (.getfield 100, 3) := dk_180 0 100 (dk_at dksX0_names_0 21 rfl rfl)
theorem dX0_names_24 : decode cX0_names 24 = .ok (.iload_n 1, 1) := dk_27 (dk_at dksX0_names_1 0 rfl rfl)
theorem dX0_names_25 : decode cX0_names 25 = .ok (.iadd, 1) := dk_96 (dk_at dksX0_names_1 1 rfl rfl)
theorem dX0_names_26 : decode cX0_names 26 = .ok (.sipush 300, 3) := dk_17 1 44 (dk_at dksX0_names_1 2 rfl rfl)
theorem dX0_names_29 : decode cX0_names 29 = .ok (.if_icmp .le 11, 3) := dk_164 0 11 (dk_at dksX0_names_1 5 rfl rfl)
theorem dX0_names_32 : decode cX0_names 32 = .ok (.aload_n 0, 1) := dk_42 (dk_at dksX0_names_1 8 rfl rfl)
theorem dX0_names_33 : decode cX0_names 33 = .ok (.sipush (-1003), 3) := dk_17 252 21 (dk_at dksX0_names_1 9 rfl rfl)
theorem dX0_names_36 : decode cX0_names 36 = .ok (.invokevirtual 124, 3) := dk_182 0 124 (dk_at dksX0_names_1 12 rfl rfl)
theorem dX0_names_39 : decode cX0_names 39 = .ok (.ireturn, 1) := dk_172 (dk_at dksX0_names_1 15 rfl rfl)
theorem dX0_names_40 : decode cX0_names 40 = .ok (.aload_n 0, 1) := dk_42 (dk_at dksX0_names_1 16 rfl rfl)
theorem dX0_names_41 : decode cX0_names 41 = .ok (.iload_n 1, 1) := dk_27 (dk_at dksX0_names_1 17 rfl rfl)
theorem dX0_names_42 : decode cX0_names 42 = .ok (.invokevirtual 127, 3) := dk_182 0 127 (dk_at dksX0_names_1 18 rfl rfl)
theorem dX0_names_45 : decode cX0_names 45 = .ok (.aload_n 0, 1) := dk_42 (dk_at dksX0_names_1 21 rfl rfl)
theorem dX0_names_46 : decode cX0_names 46 = .ok (.getfield 100, 3) := dk_180 0 100 (dk_at dksX0_names_2 0 rfl rfl)
theorem dX0_names_49 : decode cX0_names 49 = .ok (.ireturn, 1) := dk_172 (dk_at dksX0_names_2 3 rfl rfl)
abbrev cX0_isIn : ByteArray := prog_1_method_2_code
def yX0_isIn : MethodName := ⟨RX0, "isIn", "(JJJ)Z"⟩
def dkwX0_isIn_0 : List UInt8 := [30, 32, 148, 155, 0, 14, 30, 22, 4, 148, 157, 0, 7, 4, 167, 0, 4, 3, 172]
abbrev dktX0_isIn_0 : List UInt8 := dkwX0_isIn_0 ++ []
theorem dksX0_isIn_0 : cX0_isIn.data.toList.drop 0 = dktX0_isIn_0 := by decide +kernel
theorem dX0_isIn_0 : decode cX0_isIn 0 = .ok (.lload_n 0, 1) := dk_30 (dk_at dksX0_isIn_0 0 rfl rfl)
theorem dX0_isIn_1 : decode cX0_isIn 1 = .ok (.lload_n 2, 1) := dk_32 (dk_at dksX0_isIn_0 1 rfl rfl)
theorem dX0_isIn_2 : decode cX0_isIn 2 = .ok (.lcmp, 1) := dk_148 (dk_at dksX0_isIn_0 2 rfl rfl)
theorem dX0_isIn_3 : decode cX0_isIn 3 = .ok (.ifCond .lt 14, 3) := dk_155 0 14 (dk_at dksX0_isIn_0 3 rfl rfl)
theorem dX0_isIn_6 : decode cX0_isIn 6 = .ok (.lload_n 0, 1) := dk_30 (dk_at dksX0_isIn_0 6 rfl rfl)
theorem dX0_isIn_7 : decode cX0_isIn 7 = .ok (.lload 4, 2) := dk_22 4 (dk_at dksX0_isIn_0 7 rfl rfl)
theorem dX0_isIn_9 : decode cX0_isIn 9 = .ok (.lcmp, 1) := dk_148 (dk_at dksX0_isIn_0 9 rfl rfl)
theorem dX0_isIn_10 : decode cX0_isIn 10 = .ok (.ifCond .gt 7, 3) := dk_157 0 7 (dk_at dksX0_isIn_0 10 rfl rfl)
theorem dX0_isIn_13 : decode cX0_isIn 13 = .ok (.iconst 1, 1) := dk_4 (dk_at dksX0_isIn_0 13 rfl rfl)
theorem dX0_isIn_14 : decode cX0_isIn 14 = .ok (.goto 4, 3) := dk_167 0 4 (dk_at dksX0_isIn_0 14 rfl rfl)
theorem dX0_isIn_17 : decode cX0_isIn 17 = .ok (.iconst 0, 1) := dk_3 (dk_at dksX0_isIn_0 17 rfl rfl)
theorem dX0_isIn_18 : decode cX0_isIn 18 = .ok (.ireturn, 1) := dk_172 (dk_at dksX0_isIn_0 18 rfl rfl)
abbrev cX0_refused : ByteArray := prog_1_method_3_code
def yX0_refused : MethodName := ⟨RX0, "refused", "(I)I"⟩
def dkwX0_refused_0 : List UInt8 := [42, 27, 181, 0, 97, 27, 172]
abbrev dktX0_refused_0 : List UInt8 := dkwX0_refused_0 ++ []
theorem dksX0_refused_0 : cX0_refused.data.toList.drop 0 = dktX0_refused_0 := by decide +kernel
theorem dX0_refused_0 : decode cX0_refused 0 = .ok (.aload_n 0, 1) := dk_42 (dk_at dksX0_refused_0 0 rfl rfl)
theorem dX0_refused_1 : decode cX0_refused 1 = .ok (.iload_n 1, 1) := dk_27 (dk_at dksX0_refused_0 1 rfl rfl)
theorem dX0_refused_2 : decode cX0_refused 2 = .ok (.putfield 97, 3) := dk_181 0 97 (dk_at dksX0_refused_0 2 rfl rfl)
theorem dX0_refused_5 : decode cX0_refused 5 = .ok (.iload_n 1, 1) := dk_27 (dk_at dksX0_refused_0 5 rfl rfl)
theorem dX0_refused_6 : decode cX0_refused 6 = .ok (.ireturn, 1) := dk_172 (dk_at dksX0_refused_0 6 rfl rfl)
abbrev cX0_moreNames : ByteArray := prog_1_method_4_code
def yX0_moreNames : MethodName := ⟨RX0, "moreNames", "(I)V"⟩
def dkwX0_moreNames_2 : List UInt8 := [180, 0, 106, 4, 96, 181, 0, 106, 177]
abbrev dktX0_moreNames_2 : List UInt8 := dkwX0_moreNames_2 ++ []
def dkwX0_moreNames_1 : List UInt8 := [96, 183, 0, 103, 83, 42, 89, 180, 0, 100, 4, 96, 181, 0, 100, 132, 2, 1, 167, 255, 216, 42, 89]
abbrev dktX0_moreNames_1 : List UInt8 := dkwX0_moreNames_1 ++ dktX0_moreNames_2
def dkwX0_moreNames_0 : List UInt8 := [3, 61, 28, 27, 162, 0, 41, 42, 180, 0, 11, 42, 180, 0, 100, 187, 0, 9, 89, 42, 180, 0, 100, 4]
abbrev dktX0_moreNames_0 : List UInt8 := dkwX0_moreNames_0 ++ dktX0_moreNames_1
theorem dksX0_moreNames_0 : cX0_moreNames.data.toList.drop 0 = dktX0_moreNames_0 := by decide +kernel
theorem dksX0_moreNames_1 : cX0_moreNames.data.toList.drop 24 = dktX0_moreNames_1 := dk_seg dksX0_moreNames_0 24 rfl rfl
theorem dksX0_moreNames_2 : cX0_moreNames.data.toList.drop 47 = dktX0_moreNames_2 := dk_seg dksX0_moreNames_1 23 rfl rfl
theorem dX0_moreNames_0 : decode cX0_moreNames 0 = .ok (.iconst 0, 1) := dk_3 (dk_at dksX0_moreNames_0 0 rfl rfl)
theorem dX0_moreNames_1 : decode cX0_moreNames 1 = .ok (.istore_n 2, 1) := dk_61 (dk_at dksX0_moreNames_0 1 rfl rfl)
theorem dX0_moreNames_2 : decode cX0_moreNames 2 = .ok (.iload_n 2, 1) := dk_28 (dk_at dksX0_moreNames_0 2 rfl rfl)
theorem dX0_moreNames_3 : decode cX0_moreNames 3 = .ok (.iload_n 1, 1) := dk_27 (dk_at dksX0_moreNames_0 3 rfl rfl)
theorem dX0_moreNames_4 : decode cX0_moreNames 4 = .ok (.if_icmp .ge 41, 3) := dk_162 0 41 (dk_at dksX0_moreNames_0 4 rfl rfl)
theorem dX0_moreNames_7 : decode cX0_moreNames 7 = .ok (.aload_n 0, 1) := dk_42 (dk_at dksX0_moreNames_0 7 rfl rfl)
theorem dX0_moreNames_8 : decode cX0_moreNames 8 = .ok (.getfield 11, 3) := dk_180 0 11 (dk_at dksX0_moreNames_0 8 rfl rfl)
theorem dX0_moreNames_11 : decode cX0_moreNames 11 = .ok (.aload_n 0, 1) := dk_42 (dk_at dksX0_moreNames_0 11 rfl rfl)
theorem dX0_moreNames_12 : decode cX0_moreNames 12 = .ok (.getfield 100, 3) := dk_180 0 100 (dk_at dksX0_moreNames_0 12 rfl rfl)
theorem dX0_moreNames_15 : decode cX0_moreNames 15 = .ok (.new 9, 3) := dk_187 0 9 (dk_at dksX0_moreNames_0 15 rfl rfl)
theorem dX0_moreNames_18 : decode cX0_moreNames 18 = .ok (.dup, 1) := dk_89 (dk_at dksX0_moreNames_0 18 rfl rfl)
theorem dX0_moreNames_19 : decode cX0_moreNames 19 = .ok (.aload_n 0, 1) := dk_42 (dk_at dksX0_moreNames_0 19 rfl rfl)
theorem dX0_moreNames_20 : decode cX0_moreNames 20 = .ok (.getfield 100, 3) := dk_180 0 100 (dk_at dksX0_moreNames_0 20 rfl rfl)
theorem dX0_moreNames_23 : decode cX0_moreNames 23 = .ok (.iconst 1, 1) := dk_4 (dk_at dksX0_moreNames_0 23 rfl rfl)
theorem dX0_moreNames_24 : decode cX0_moreNames 24 = .ok (.iadd, 1) := dk_96 (dk_at dksX0_moreNames_1 0 rfl rfl)
theorem dX0_moreNames_25 : decode cX0_moreNames 25 = .ok (.invokespecial 103, 3) := dk_183 0 103 (dk_at dksX0_moreNames_1 1 rfl rfl)
theorem dX0_moreNames_28 : decode cX0_moreNames 28 = .ok (.aastore, 1) := dk_83 (dk_at dksX0_moreNames_1 4 rfl rfl)
theorem dX0_moreNames_29 : decode cX0_moreNames 29 = .ok (.aload_n 0, 1) := dk_42 (dk_at dksX0_moreNames_1 5 rfl rfl)
theorem dX0_moreNames_30 : decode cX0_moreNames 30 = .ok (.dup, 1) := dk_89 (dk_at dksX0_moreNames_1 6 rfl rfl)
theorem dX0_moreNames_31 : decode cX0_moreNames 31 = .ok (.getfield 100, 3) := dk_180 0 100 (dk_at dksX0_moreNames_1 7 rfl rfl)
theorem dX0_moreNames_34 : decode cX0_moreNames 34 = .ok (.iconst 1, 1) := dk_4 (dk_at dksX0_moreNames_1 10 rfl rfl)
theorem dX0_moreNames_35 : decode cX0_moreNames 35 = .ok (.iadd, 1) := dk_96 (dk_at dksX0_moreNames_1 11 rfl rfl)
theorem dX0_moreNames_36 : decode cX0_moreNames 36 = .ok (.putfield 100, 3) := dk_181 0 100 (dk_at dksX0_moreNames_1 12 rfl rfl)
theorem dX0_moreNames_39 : decode cX0_moreNames 39 = .ok (.iinc 2 1, 3) := dk_132 2 1 (dk_at dksX0_moreNames_1 15 rfl rfl)
theorem dX0_moreNames_42 : decode cX0_moreNames 42 = .ok (.goto (-40), 3) := dk_167 255 216 (dk_at dksX0_moreNames_1 18 rfl rfl)
theorem dX0_moreNames_45 : decode cX0_moreNames 45 = .ok (.aload_n 0, 1) := dk_42 (dk_at dksX0_moreNames_1 21 rfl rfl)
theorem dX0_moreNames_46 : decode cX0_moreNames 46 = .ok (.dup, 1) := dk_89 (dk_at dksX0_moreNames_1 22 rfl rfl)
theorem dX0_moreNames_47 : decode cX0_moreNames 47 = .ok (.getfield 106, 3) := dk_180 0 106 (dk_at dksX0_moreNames_2 0 rfl rfl)
theorem dX0_moreNames_50 : decode cX0_moreNames 50 = .ok (.iconst 1, 1) := dk_4 (dk_at dksX0_moreNames_2 3 rfl rfl)
theorem dX0_moreNames_51 : decode cX0_moreNames 51 = .ok (.iadd, 1) := dk_96 (dk_at dksX0_moreNames_2 4 rfl rfl)
theorem dX0_moreNames_52 : decode cX0_moreNames 52 = .ok (.putfield 106, 3) := dk_181 0 106 (dk_at dksX0_moreNames_2 5 rfl rfl)
theorem dX0_moreNames_55 : decode cX0_moreNames 55 = .ok (.return_, 1) := dk_177 (dk_at dksX0_moreNames_2 8 rfl rfl)
abbrev cX0_row : ByteArray := prog_1_method_9_code
def yX0_row : MethodName := ⟨RX0, "row", "(II)I"⟩
def dkwX0_row_1 : List UInt8 := [180, 0, 17, 27, 28, 188, 10, 83, 28, 172, 78, 42, 17, 252, 10, 182, 0, 124, 172]
abbrev dktX0_row_1 : List UInt8 := dkwX0_row_1 ++ []
def dkwX0_row_0 : List UInt8 := [27, 184, 0, 132, 153, 0, 9, 28, 16, 12, 164, 0, 11, 42, 17, 252, 23, 182, 0, 124, 172, 42]
abbrev dktX0_row_0 : List UInt8 := dkwX0_row_0 ++ dktX0_row_1
theorem dksX0_row_0 : cX0_row.data.toList.drop 0 = dktX0_row_0 := by decide +kernel
theorem dksX0_row_1 : cX0_row.data.toList.drop 22 = dktX0_row_1 := dk_seg dksX0_row_0 22 rfl rfl
theorem dX0_row_0 : decode cX0_row 0 = .ok (.iload_n 1, 1) := dk_27 (dk_at dksX0_row_0 0 rfl rfl)
theorem dX0_row_1 : decode cX0_row 1 = .ok (.invokestatic 132, 3) := dk_184 0 132 (dk_at dksX0_row_0 1 rfl rfl)
theorem dX0_row_4 : decode cX0_row 4 = .ok (.ifCond .eq 9, 3) := dk_153 0 9 (dk_at dksX0_row_0 4 rfl rfl)
theorem dX0_row_7 : decode cX0_row 7 = .ok (.iload_n 2, 1) := dk_28 (dk_at dksX0_row_0 7 rfl rfl)
theorem dX0_row_8 : decode cX0_row 8 = .ok (.bipush 12, 2) := dk_16 12 (dk_at dksX0_row_0 8 rfl rfl)
theorem dX0_row_10 : decode cX0_row 10 = .ok (.if_icmp .le 11, 3) := dk_164 0 11 (dk_at dksX0_row_0 10 rfl rfl)
theorem dX0_row_13 : decode cX0_row 13 = .ok (.aload_n 0, 1) := dk_42 (dk_at dksX0_row_0 13 rfl rfl)
theorem dX0_row_14 : decode cX0_row 14 = .ok (.sipush (-1001), 3) := dk_17 252 23 (dk_at dksX0_row_0 14 rfl rfl)
theorem dX0_row_17 : decode cX0_row 17 = .ok (.invokevirtual 124, 3) := dk_182 0 124 (dk_at dksX0_row_0 17 rfl rfl)
theorem dX0_row_20 : decode cX0_row 20 = .ok (.ireturn, 1) := dk_172 (dk_at dksX0_row_0 20 rfl rfl)
theorem dX0_row_21 : decode cX0_row 21 = .ok (.aload_n 0, 1) := dk_42 (dk_at dksX0_row_0 21 rfl rfl)
theorem dX0_row_22 : decode cX0_row 22 = .ok (.getfield 17, 3) := dk_180 0 17 (dk_at dksX0_row_1 0 rfl rfl)
theorem dX0_row_25 : decode cX0_row 25 = .ok (.iload_n 1, 1) := dk_27 (dk_at dksX0_row_1 3 rfl rfl)
theorem dX0_row_26 : decode cX0_row 26 = .ok (.iload_n 2, 1) := dk_28 (dk_at dksX0_row_1 4 rfl rfl)
theorem dX0_row_27 : decode cX0_row 27 = .ok (.newarray .int, 2) := dk_188_10 (dk_at dksX0_row_1 5 rfl rfl)
theorem dX0_row_29 : decode cX0_row 29 = .ok (.aastore, 1) := dk_83 (dk_at dksX0_row_1 7 rfl rfl)
theorem dX0_row_30 : decode cX0_row 30 = .ok (.iload_n 2, 1) := dk_28 (dk_at dksX0_row_1 8 rfl rfl)
theorem dX0_row_31 : decode cX0_row 31 = .ok (.ireturn, 1) := dk_172 (dk_at dksX0_row_1 9 rfl rfl)
theorem dX0_row_32 : decode cX0_row 32 = .ok (.astore_n 3, 1) := dk_78 (dk_at dksX0_row_1 10 rfl rfl)
theorem dX0_row_33 : decode cX0_row 33 = .ok (.aload_n 0, 1) := dk_42 (dk_at dksX0_row_1 11 rfl rfl)
theorem dX0_row_34 : decode cX0_row 34 = .ok (.sipush (-1014), 3) := dk_17 252 10 (dk_at dksX0_row_1 12 rfl rfl)
theorem dX0_row_37 : decode cX0_row 37 = .ok (.invokevirtual 124, 3) := dk_182 0 124 (dk_at dksX0_row_1 15 rfl rfl)
theorem dX0_row_40 : decode cX0_row 40 = .ok (.ireturn, 1) := dk_172 (dk_at dksX0_row_1 18 rfl rfl)
abbrev cX0_isPaper : ByteArray := prog_1_method_8_code
def yX0_isPaper : MethodName := ⟨RX0, "isPaper", "(I)Z"⟩
def dkwX0_isPaper_0 : List UInt8 := [26, 133, 9, 20, 0, 130, 184, 0, 109, 172]
abbrev dktX0_isPaper_0 : List UInt8 := dkwX0_isPaper_0 ++ []
theorem dksX0_isPaper_0 : cX0_isPaper.data.toList.drop 0 = dktX0_isPaper_0 := by decide +kernel
theorem dX0_isPaper_0 : decode cX0_isPaper 0 = .ok (.iload_n 0, 1) := dk_26 (dk_at dksX0_isPaper_0 0 rfl rfl)
theorem dX0_isPaper_1 : decode cX0_isPaper 1 = .ok (.i2l, 1) := dk_133 (dk_at dksX0_isPaper_0 1 rfl rfl)
theorem dX0_isPaper_2 : decode cX0_isPaper 2 = .ok (.lconst 0, 1) := dk_9 (dk_at dksX0_isPaper_0 2 rfl rfl)
theorem dX0_isPaper_3 : decode cX0_isPaper 3 = .ok (.ldc2_w 130, 3) := dk_20 0 130 (dk_at dksX0_isPaper_0 3 rfl rfl)
theorem dX0_isPaper_6 : decode cX0_isPaper 6 = .ok (.invokestatic 109, 3) := dk_184 0 109 (dk_at dksX0_isPaper_0 6 rfl rfl)
theorem dX0_isPaper_9 : decode cX0_isPaper 9 = .ok (.ireturn, 1) := dk_172 (dk_at dksX0_isPaper_0 9 rfl rfl)
abbrev cX0_drop : ByteArray := prog_1_method_10_code
def yX0_drop : MethodName := ⟨RX0, "drop", "(I)I"⟩
def dkwX0_drop_0 : List UInt8 := [27, 184, 0, 132, 154, 0, 11, 42, 17, 252, 23, 182, 0, 124, 172, 42, 180, 0, 17, 27, 1, 83, 4, 172]
abbrev dktX0_drop_0 : List UInt8 := dkwX0_drop_0 ++ []
theorem dksX0_drop_0 : cX0_drop.data.toList.drop 0 = dktX0_drop_0 := by decide +kernel
theorem dX0_drop_0 : decode cX0_drop 0 = .ok (.iload_n 1, 1) := dk_27 (dk_at dksX0_drop_0 0 rfl rfl)
theorem dX0_drop_1 : decode cX0_drop 1 = .ok (.invokestatic 132, 3) := dk_184 0 132 (dk_at dksX0_drop_0 1 rfl rfl)
theorem dX0_drop_4 : decode cX0_drop 4 = .ok (.ifCond .ne 11, 3) := dk_154 0 11 (dk_at dksX0_drop_0 4 rfl rfl)
theorem dX0_drop_7 : decode cX0_drop 7 = .ok (.aload_n 0, 1) := dk_42 (dk_at dksX0_drop_0 7 rfl rfl)
theorem dX0_drop_8 : decode cX0_drop 8 = .ok (.sipush (-1001), 3) := dk_17 252 23 (dk_at dksX0_drop_0 8 rfl rfl)
theorem dX0_drop_11 : decode cX0_drop 11 = .ok (.invokevirtual 124, 3) := dk_182 0 124 (dk_at dksX0_drop_0 11 rfl rfl)
theorem dX0_drop_14 : decode cX0_drop 14 = .ok (.ireturn, 1) := dk_172 (dk_at dksX0_drop_0 14 rfl rfl)
theorem dX0_drop_15 : decode cX0_drop 15 = .ok (.aload_n 0, 1) := dk_42 (dk_at dksX0_drop_0 15 rfl rfl)
theorem dX0_drop_16 : decode cX0_drop 16 = .ok (.getfield 17, 3) := dk_180 0 17 (dk_at dksX0_drop_0 16 rfl rfl)
theorem dX0_drop_19 : decode cX0_drop 19 = .ok (.iload_n 1, 1) := dk_27 (dk_at dksX0_drop_0 19 rfl rfl)
theorem dX0_drop_20 : decode cX0_drop 20 = .ok (.aconst_null, 1) := dk_1 (dk_at dksX0_drop_0 20 rfl rfl)
theorem dX0_drop_21 : decode cX0_drop 21 = .ok (.aastore, 1) := dk_83 (dk_at dksX0_drop_0 21 rfl rfl)
theorem dX0_drop_22 : decode cX0_drop 22 = .ok (.iconst 1, 1) := dk_4 (dk_at dksX0_drop_0 22 rfl rfl)
theorem dX0_drop_23 : decode cX0_drop 23 = .ok (.ireturn, 1) := dk_172 (dk_at dksX0_drop_0 23 rfl rfl)
abbrev cX0_put : ByteArray := prog_1_method_11_code
def yX0_put : MethodName := ⟨RX0, "put", "(III)I"⟩
def dkwX0_put_1 : List UInt8 := [4, 172, 58, 4, 42, 17, 252, 13, 182, 0, 124, 172, 58, 4, 42, 17, 252, 12, 182, 0, 124, 172]
abbrev dktX0_put_1 : List UInt8 := dkwX0_put_1 ++ []
def dkwX0_put_0 : List UInt8 := [27, 184, 0, 132, 154, 0, 11, 42, 17, 252, 23, 182, 0, 124, 172, 42, 180, 0, 17, 27, 50, 28, 29, 79]
abbrev dktX0_put_0 : List UInt8 := dkwX0_put_0 ++ dktX0_put_1
theorem dksX0_put_0 : cX0_put.data.toList.drop 0 = dktX0_put_0 := by decide +kernel
theorem dksX0_put_1 : cX0_put.data.toList.drop 24 = dktX0_put_1 := dk_seg dksX0_put_0 24 rfl rfl
theorem dX0_put_0 : decode cX0_put 0 = .ok (.iload_n 1, 1) := dk_27 (dk_at dksX0_put_0 0 rfl rfl)
theorem dX0_put_1 : decode cX0_put 1 = .ok (.invokestatic 132, 3) := dk_184 0 132 (dk_at dksX0_put_0 1 rfl rfl)
theorem dX0_put_4 : decode cX0_put 4 = .ok (.ifCond .ne 11, 3) := dk_154 0 11 (dk_at dksX0_put_0 4 rfl rfl)
theorem dX0_put_7 : decode cX0_put 7 = .ok (.aload_n 0, 1) := dk_42 (dk_at dksX0_put_0 7 rfl rfl)
theorem dX0_put_8 : decode cX0_put 8 = .ok (.sipush (-1001), 3) := dk_17 252 23 (dk_at dksX0_put_0 8 rfl rfl)
theorem dX0_put_11 : decode cX0_put 11 = .ok (.invokevirtual 124, 3) := dk_182 0 124 (dk_at dksX0_put_0 11 rfl rfl)
theorem dX0_put_14 : decode cX0_put 14 = .ok (.ireturn, 1) := dk_172 (dk_at dksX0_put_0 14 rfl rfl)
theorem dX0_put_15 : decode cX0_put 15 = .ok (.aload_n 0, 1) := dk_42 (dk_at dksX0_put_0 15 rfl rfl)
theorem dX0_put_16 : decode cX0_put 16 = .ok (.getfield 17, 3) := dk_180 0 17 (dk_at dksX0_put_0 16 rfl rfl)
theorem dX0_put_19 : decode cX0_put 19 = .ok (.iload_n 1, 1) := dk_27 (dk_at dksX0_put_0 19 rfl rfl)
theorem dX0_put_20 : decode cX0_put 20 = .ok (.aaload, 1) := dk_50 (dk_at dksX0_put_0 20 rfl rfl)
theorem dX0_put_21 : decode cX0_put 21 = .ok (.iload_n 2, 1) := dk_28 (dk_at dksX0_put_0 21 rfl rfl)
theorem dX0_put_22 : decode cX0_put 22 = .ok (.iload_n 3, 1) := dk_29 (dk_at dksX0_put_0 22 rfl rfl)
theorem dX0_put_23 : decode cX0_put 23 = .ok (.iastore, 1) := dk_79 (dk_at dksX0_put_0 23 rfl rfl)
theorem dX0_put_24 : decode cX0_put 24 = .ok (.iconst 1, 1) := dk_4 (dk_at dksX0_put_1 0 rfl rfl)
theorem dX0_put_25 : decode cX0_put 25 = .ok (.ireturn, 1) := dk_172 (dk_at dksX0_put_1 1 rfl rfl)
theorem dX0_put_26 : decode cX0_put 26 = .ok (.astore 4, 2) := dk_58 4 (dk_at dksX0_put_1 2 rfl rfl)
theorem dX0_put_28 : decode cX0_put 28 = .ok (.aload_n 0, 1) := dk_42 (dk_at dksX0_put_1 4 rfl rfl)
theorem dX0_put_29 : decode cX0_put 29 = .ok (.sipush (-1011), 3) := dk_17 252 13 (dk_at dksX0_put_1 5 rfl rfl)
theorem dX0_put_32 : decode cX0_put 32 = .ok (.invokevirtual 124, 3) := dk_182 0 124 (dk_at dksX0_put_1 8 rfl rfl)
theorem dX0_put_35 : decode cX0_put 35 = .ok (.ireturn, 1) := dk_172 (dk_at dksX0_put_1 11 rfl rfl)
theorem dX0_put_36 : decode cX0_put 36 = .ok (.astore 4, 2) := dk_58 4 (dk_at dksX0_put_1 12 rfl rfl)
theorem dX0_put_38 : decode cX0_put 38 = .ok (.aload_n 0, 1) := dk_42 (dk_at dksX0_put_1 14 rfl rfl)
theorem dX0_put_39 : decode cX0_put 39 = .ok (.sipush (-1012), 3) := dk_17 252 12 (dk_at dksX0_put_1 15 rfl rfl)
theorem dX0_put_42 : decode cX0_put 42 = .ok (.invokevirtual 124, 3) := dk_182 0 124 (dk_at dksX0_put_1 18 rfl rfl)
theorem dX0_put_45 : decode cX0_put 45 = .ok (.ireturn, 1) := dk_172 (dk_at dksX0_put_1 21 rfl rfl)
abbrev cX0_get : ByteArray := prog_1_method_12_code
def yX0_get : MethodName := ⟨RX0, "get", "(II)J"⟩
def dkwX0_get_3 : List UInt8 := [182, 0, 124, 133, 105, 173]
abbrev dktX0_get_3 : List UInt8 := dkwX0_get_3 ++ []
def dkwX0_get_2 : List UInt8 := [78, 20, 0, 142, 42, 17, 252, 13, 182, 0, 124, 133, 105, 173, 78, 20, 0, 142, 42, 17, 252, 12]
abbrev dktX0_get_2 : List UInt8 := dkwX0_get_2 ++ dktX0_get_3
def dkwX0_get_1 : List UInt8 := [160, 0, 14, 42, 180, 0, 17, 27, 50, 190, 133, 167, 0, 12, 42, 180, 0, 17, 27, 50, 28, 46, 133, 173]
abbrev dktX0_get_1 : List UInt8 := dkwX0_get_1 ++ dktX0_get_2
def dkwX0_get_0 : List UInt8 := [27, 184, 0, 132, 154, 0, 16, 20, 0, 142, 42, 17, 252, 23, 182, 0, 124, 133, 105, 173, 28, 2]
abbrev dktX0_get_0 : List UInt8 := dkwX0_get_0 ++ dktX0_get_1
theorem dksX0_get_0 : cX0_get.data.toList.drop 0 = dktX0_get_0 := by decide +kernel
theorem dksX0_get_1 : cX0_get.data.toList.drop 22 = dktX0_get_1 := dk_seg dksX0_get_0 22 rfl rfl
theorem dksX0_get_2 : cX0_get.data.toList.drop 46 = dktX0_get_2 := dk_seg dksX0_get_1 24 rfl rfl
theorem dksX0_get_3 : cX0_get.data.toList.drop 68 = dktX0_get_3 := dk_seg dksX0_get_2 22 rfl rfl
theorem dX0_get_0 : decode cX0_get 0 = .ok (.iload_n 1, 1) := dk_27 (dk_at dksX0_get_0 0 rfl rfl)
theorem dX0_get_1 : decode cX0_get 1 = .ok (.invokestatic 132, 3) := dk_184 0 132 (dk_at dksX0_get_0 1 rfl rfl)
theorem dX0_get_4 : decode cX0_get 4 = .ok (.ifCond .ne 16, 3) := dk_154 0 16 (dk_at dksX0_get_0 4 rfl rfl)
theorem dX0_get_7 : decode cX0_get 7 = .ok (.ldc2_w 142, 3) := dk_20 0 142 (dk_at dksX0_get_0 7 rfl rfl)
theorem dX0_get_10 : decode cX0_get 10 = .ok (.aload_n 0, 1) := dk_42 (dk_at dksX0_get_0 10 rfl rfl)
theorem dX0_get_11 : decode cX0_get 11 = .ok (.sipush (-1001), 3) := dk_17 252 23 (dk_at dksX0_get_0 11 rfl rfl)
theorem dX0_get_14 : decode cX0_get 14 = .ok (.invokevirtual 124, 3) := dk_182 0 124 (dk_at dksX0_get_0 14 rfl rfl)
theorem dX0_get_17 : decode cX0_get 17 = .ok (.i2l, 1) := dk_133 (dk_at dksX0_get_0 17 rfl rfl)
theorem dX0_get_18 : decode cX0_get 18 = .ok (.lmul, 1) := dk_105 (dk_at dksX0_get_0 18 rfl rfl)
theorem dX0_get_19 : decode cX0_get 19 = .ok (.lreturn, 1) := dk_173 (dk_at dksX0_get_0 19 rfl rfl)
theorem dX0_get_20 : decode cX0_get 20 = .ok (.iload_n 2, 1) := dk_28 (dk_at dksX0_get_0 20 rfl rfl)
theorem dX0_get_21 : decode cX0_get 21 = .ok (.iconst (-1), 1) := dk_2 (dk_at dksX0_get_0 21 rfl rfl)
theorem dX0_get_22 : decode cX0_get 22 = .ok (.if_icmp .ne 14, 3) := dk_160 0 14 (dk_at dksX0_get_1 0 rfl rfl)
theorem dX0_get_25 : decode cX0_get 25 = .ok (.aload_n 0, 1) := dk_42 (dk_at dksX0_get_1 3 rfl rfl)
theorem dX0_get_26 : decode cX0_get 26 = .ok (.getfield 17, 3) := dk_180 0 17 (dk_at dksX0_get_1 4 rfl rfl)
theorem dX0_get_29 : decode cX0_get 29 = .ok (.iload_n 1, 1) := dk_27 (dk_at dksX0_get_1 7 rfl rfl)
theorem dX0_get_30 : decode cX0_get 30 = .ok (.aaload, 1) := dk_50 (dk_at dksX0_get_1 8 rfl rfl)
theorem dX0_get_31 : decode cX0_get 31 = .ok (.arraylength, 1) := dk_190 (dk_at dksX0_get_1 9 rfl rfl)
theorem dX0_get_32 : decode cX0_get 32 = .ok (.i2l, 1) := dk_133 (dk_at dksX0_get_1 10 rfl rfl)
theorem dX0_get_33 : decode cX0_get 33 = .ok (.goto 12, 3) := dk_167 0 12 (dk_at dksX0_get_1 11 rfl rfl)
theorem dX0_get_36 : decode cX0_get 36 = .ok (.aload_n 0, 1) := dk_42 (dk_at dksX0_get_1 14 rfl rfl)
theorem dX0_get_37 : decode cX0_get 37 = .ok (.getfield 17, 3) := dk_180 0 17 (dk_at dksX0_get_1 15 rfl rfl)
theorem dX0_get_40 : decode cX0_get 40 = .ok (.iload_n 1, 1) := dk_27 (dk_at dksX0_get_1 18 rfl rfl)
theorem dX0_get_41 : decode cX0_get 41 = .ok (.aaload, 1) := dk_50 (dk_at dksX0_get_1 19 rfl rfl)
theorem dX0_get_42 : decode cX0_get 42 = .ok (.iload_n 2, 1) := dk_28 (dk_at dksX0_get_1 20 rfl rfl)
theorem dX0_get_43 : decode cX0_get 43 = .ok (.iaload, 1) := dk_46 (dk_at dksX0_get_1 21 rfl rfl)
theorem dX0_get_44 : decode cX0_get 44 = .ok (.i2l, 1) := dk_133 (dk_at dksX0_get_1 22 rfl rfl)
theorem dX0_get_45 : decode cX0_get 45 = .ok (.lreturn, 1) := dk_173 (dk_at dksX0_get_1 23 rfl rfl)
theorem dX0_get_46 : decode cX0_get 46 = .ok (.astore_n 3, 1) := dk_78 (dk_at dksX0_get_2 0 rfl rfl)
theorem dX0_get_47 : decode cX0_get 47 = .ok (.ldc2_w 142, 3) := dk_20 0 142 (dk_at dksX0_get_2 1 rfl rfl)
theorem dX0_get_50 : decode cX0_get 50 = .ok (.aload_n 0, 1) := dk_42 (dk_at dksX0_get_2 4 rfl rfl)
theorem dX0_get_51 : decode cX0_get 51 = .ok (.sipush (-1011), 3) := dk_17 252 13 (dk_at dksX0_get_2 5 rfl rfl)
theorem dX0_get_54 : decode cX0_get 54 = .ok (.invokevirtual 124, 3) := dk_182 0 124 (dk_at dksX0_get_2 8 rfl rfl)
theorem dX0_get_57 : decode cX0_get 57 = .ok (.i2l, 1) := dk_133 (dk_at dksX0_get_2 11 rfl rfl)
theorem dX0_get_58 : decode cX0_get 58 = .ok (.lmul, 1) := dk_105 (dk_at dksX0_get_2 12 rfl rfl)
theorem dX0_get_59 : decode cX0_get 59 = .ok (.lreturn, 1) := dk_173 (dk_at dksX0_get_2 13 rfl rfl)
theorem dX0_get_60 : decode cX0_get 60 = .ok (.astore_n 3, 1) := dk_78 (dk_at dksX0_get_2 14 rfl rfl)
theorem dX0_get_61 : decode cX0_get 61 = .ok (.ldc2_w 142, 3) := dk_20 0 142 (dk_at dksX0_get_2 15 rfl rfl)
theorem dX0_get_64 : decode cX0_get 64 = .ok (.aload_n 0, 1) := dk_42 (dk_at dksX0_get_2 18 rfl rfl)
theorem dX0_get_65 : decode cX0_get 65 = .ok (.sipush (-1012), 3) := dk_17 252 12 (dk_at dksX0_get_2 19 rfl rfl)
theorem dX0_get_68 : decode cX0_get 68 = .ok (.invokevirtual 124, 3) := dk_182 0 124 (dk_at dksX0_get_3 0 rfl rfl)
theorem dX0_get_71 : decode cX0_get 71 = .ok (.i2l, 1) := dk_133 (dk_at dksX0_get_3 3 rfl rfl)
theorem dX0_get_72 : decode cX0_get 72 = .ok (.lmul, 1) := dk_105 (dk_at dksX0_get_3 4 rfl rfl)
theorem dX0_get_73 : decode cX0_get 73 = .ok (.lreturn, 1) := dk_173 (dk_at dksX0_get_3 5 rfl rfl)
abbrev cX0_copy : ByteArray := prog_1_method_13_code
def yX0_copy : MethodName := ⟨RX0, "copy", "(IIIII)I"⟩
def dkwX0_copy_2 : List UInt8 := [42, 17, 252, 13, 182, 0, 124, 172, 58, 6, 42, 17, 252, 12, 182, 0, 124, 172]
abbrev dktX0_copy_2 : List UInt8 := dkwX0_copy_2 ++ []
def dkwX0_copy_1 : List UInt8 := [180, 0, 17, 27, 50, 28, 42, 180, 0, 17, 29, 50, 21, 4, 21, 5, 184, 0, 144, 21, 5, 172, 58, 6]
abbrev dktX0_copy_1 : List UInt8 := dkwX0_copy_1 ++ dktX0_copy_2
def dkwX0_copy_0 : List UInt8 := [27, 184, 0, 132, 153, 0, 10, 29, 184, 0, 132, 154, 0, 11, 42, 17, 252, 23, 182, 0, 124, 172, 42]
abbrev dktX0_copy_0 : List UInt8 := dkwX0_copy_0 ++ dktX0_copy_1
theorem dksX0_copy_0 : cX0_copy.data.toList.drop 0 = dktX0_copy_0 := by decide +kernel
theorem dksX0_copy_1 : cX0_copy.data.toList.drop 23 = dktX0_copy_1 := dk_seg dksX0_copy_0 23 rfl rfl
theorem dksX0_copy_2 : cX0_copy.data.toList.drop 47 = dktX0_copy_2 := dk_seg dksX0_copy_1 24 rfl rfl
theorem dX0_copy_0 : decode cX0_copy 0 = .ok (.iload_n 1, 1) := dk_27 (dk_at dksX0_copy_0 0 rfl rfl)
theorem dX0_copy_1 : decode cX0_copy 1 = .ok (.invokestatic 132, 3) := dk_184 0 132 (dk_at dksX0_copy_0 1 rfl rfl)
theorem dX0_copy_4 : decode cX0_copy 4 = .ok (.ifCond .eq 10, 3) := dk_153 0 10 (dk_at dksX0_copy_0 4 rfl rfl)
theorem dX0_copy_7 : decode cX0_copy 7 = .ok (.iload_n 3, 1) := dk_29 (dk_at dksX0_copy_0 7 rfl rfl)
theorem dX0_copy_8 : decode cX0_copy 8 = .ok (.invokestatic 132, 3) := dk_184 0 132 (dk_at dksX0_copy_0 8 rfl rfl)
theorem dX0_copy_11 : decode cX0_copy 11 = .ok (.ifCond .ne 11, 3) := dk_154 0 11 (dk_at dksX0_copy_0 11 rfl rfl)
theorem dX0_copy_14 : decode cX0_copy 14 = .ok (.aload_n 0, 1) := dk_42 (dk_at dksX0_copy_0 14 rfl rfl)
theorem dX0_copy_15 : decode cX0_copy 15 = .ok (.sipush (-1001), 3) := dk_17 252 23 (dk_at dksX0_copy_0 15 rfl rfl)
theorem dX0_copy_18 : decode cX0_copy 18 = .ok (.invokevirtual 124, 3) := dk_182 0 124 (dk_at dksX0_copy_0 18 rfl rfl)
theorem dX0_copy_21 : decode cX0_copy 21 = .ok (.ireturn, 1) := dk_172 (dk_at dksX0_copy_0 21 rfl rfl)
theorem dX0_copy_22 : decode cX0_copy 22 = .ok (.aload_n 0, 1) := dk_42 (dk_at dksX0_copy_0 22 rfl rfl)
theorem dX0_copy_23 : decode cX0_copy 23 = .ok (.getfield 17, 3) := dk_180 0 17 (dk_at dksX0_copy_1 0 rfl rfl)
theorem dX0_copy_26 : decode cX0_copy 26 = .ok (.iload_n 1, 1) := dk_27 (dk_at dksX0_copy_1 3 rfl rfl)
theorem dX0_copy_27 : decode cX0_copy 27 = .ok (.aaload, 1) := dk_50 (dk_at dksX0_copy_1 4 rfl rfl)
theorem dX0_copy_28 : decode cX0_copy 28 = .ok (.iload_n 2, 1) := dk_28 (dk_at dksX0_copy_1 5 rfl rfl)
theorem dX0_copy_29 : decode cX0_copy 29 = .ok (.aload_n 0, 1) := dk_42 (dk_at dksX0_copy_1 6 rfl rfl)
theorem dX0_copy_30 : decode cX0_copy 30 = .ok (.getfield 17, 3) := dk_180 0 17 (dk_at dksX0_copy_1 7 rfl rfl)
theorem dX0_copy_33 : decode cX0_copy 33 = .ok (.iload_n 3, 1) := dk_29 (dk_at dksX0_copy_1 10 rfl rfl)
theorem dX0_copy_34 : decode cX0_copy 34 = .ok (.aaload, 1) := dk_50 (dk_at dksX0_copy_1 11 rfl rfl)
theorem dX0_copy_35 : decode cX0_copy 35 = .ok (.iload 4, 2) := dk_21 4 (dk_at dksX0_copy_1 12 rfl rfl)
theorem dX0_copy_37 : decode cX0_copy 37 = .ok (.iload 5, 2) := dk_21 5 (dk_at dksX0_copy_1 14 rfl rfl)
theorem dX0_copy_39 : decode cX0_copy 39 = .ok (.invokestatic 144, 3) := dk_184 0 144 (dk_at dksX0_copy_1 16 rfl rfl)
theorem dX0_copy_42 : decode cX0_copy 42 = .ok (.iload 5, 2) := dk_21 5 (dk_at dksX0_copy_1 19 rfl rfl)
theorem dX0_copy_44 : decode cX0_copy 44 = .ok (.ireturn, 1) := dk_172 (dk_at dksX0_copy_1 21 rfl rfl)
theorem dX0_copy_45 : decode cX0_copy 45 = .ok (.astore 6, 2) := dk_58 6 (dk_at dksX0_copy_1 22 rfl rfl)
theorem dX0_copy_47 : decode cX0_copy 47 = .ok (.aload_n 0, 1) := dk_42 (dk_at dksX0_copy_2 0 rfl rfl)
theorem dX0_copy_48 : decode cX0_copy 48 = .ok (.sipush (-1011), 3) := dk_17 252 13 (dk_at dksX0_copy_2 1 rfl rfl)
theorem dX0_copy_51 : decode cX0_copy 51 = .ok (.invokevirtual 124, 3) := dk_182 0 124 (dk_at dksX0_copy_2 4 rfl rfl)
theorem dX0_copy_54 : decode cX0_copy 54 = .ok (.ireturn, 1) := dk_172 (dk_at dksX0_copy_2 7 rfl rfl)
theorem dX0_copy_55 : decode cX0_copy 55 = .ok (.astore 6, 2) := dk_58 6 (dk_at dksX0_copy_2 8 rfl rfl)
theorem dX0_copy_57 : decode cX0_copy 57 = .ok (.aload_n 0, 1) := dk_42 (dk_at dksX0_copy_2 10 rfl rfl)
theorem dX0_copy_58 : decode cX0_copy 58 = .ok (.sipush (-1012), 3) := dk_17 252 12 (dk_at dksX0_copy_2 11 rfl rfl)
theorem dX0_copy_61 : decode cX0_copy 61 = .ok (.invokevirtual 124, 3) := dk_182 0 124 (dk_at dksX0_copy_2 14 rfl rfl)
theorem dX0_copy_64 : decode cX0_copy 64 = .ok (.ireturn, 1) := dk_172 (dk_at dksX0_copy_2 17 rfl rfl)
abbrev cX0_cut : ByteArray := prog_1_method_14_code
def yX0_cut : MethodName := ⟨RX0, "cut", "(II)I"⟩
def dkwX0_cut_3 : List UInt8 := [182, 0, 124, 172]
abbrev dktX0_cut_3 : List UInt8 := dkwX0_cut_3 ++ []
def dkwX0_cut_2 : List UInt8 := [42, 17, 252, 10, 182, 0, 124, 172, 78, 42, 17, 252, 13, 182, 0, 124, 172, 78, 42, 17, 252, 12]
abbrev dktX0_cut_2 : List UInt8 := dkwX0_cut_2 ++ dktX0_cut_3
def dkwX0_cut_1 : List UInt8 := [78, 42, 180, 0, 17, 27, 50, 3, 45, 3, 28, 184, 0, 144, 42, 180, 0, 17, 27, 45, 83, 28, 172, 78]
abbrev dktX0_cut_1 : List UInt8 := dkwX0_cut_1 ++ dktX0_cut_2
def dkwX0_cut_0 : List UInt8 := [27, 184, 0, 132, 153, 0, 9, 28, 16, 12, 164, 0, 11, 42, 17, 252, 23, 182, 0, 124, 172, 28, 188, 10]
abbrev dktX0_cut_0 : List UInt8 := dkwX0_cut_0 ++ dktX0_cut_1
theorem dksX0_cut_0 : cX0_cut.data.toList.drop 0 = dktX0_cut_0 := by decide +kernel
theorem dksX0_cut_1 : cX0_cut.data.toList.drop 24 = dktX0_cut_1 := dk_seg dksX0_cut_0 24 rfl rfl
theorem dksX0_cut_2 : cX0_cut.data.toList.drop 48 = dktX0_cut_2 := dk_seg dksX0_cut_1 24 rfl rfl
theorem dksX0_cut_3 : cX0_cut.data.toList.drop 70 = dktX0_cut_3 := dk_seg dksX0_cut_2 22 rfl rfl
theorem dX0_cut_0 : decode cX0_cut 0 = .ok (.iload_n 1, 1) := dk_27 (dk_at dksX0_cut_0 0 rfl rfl)
theorem dX0_cut_1 : decode cX0_cut 1 = .ok (.invokestatic 132, 3) := dk_184 0 132 (dk_at dksX0_cut_0 1 rfl rfl)
theorem dX0_cut_4 : decode cX0_cut 4 = .ok (.ifCond .eq 9, 3) := dk_153 0 9 (dk_at dksX0_cut_0 4 rfl rfl)
theorem dX0_cut_7 : decode cX0_cut 7 = .ok (.iload_n 2, 1) := dk_28 (dk_at dksX0_cut_0 7 rfl rfl)
theorem dX0_cut_8 : decode cX0_cut 8 = .ok (.bipush 12, 2) := dk_16 12 (dk_at dksX0_cut_0 8 rfl rfl)
theorem dX0_cut_10 : decode cX0_cut 10 = .ok (.if_icmp .le 11, 3) := dk_164 0 11 (dk_at dksX0_cut_0 10 rfl rfl)
theorem dX0_cut_13 : decode cX0_cut 13 = .ok (.aload_n 0, 1) := dk_42 (dk_at dksX0_cut_0 13 rfl rfl)
theorem dX0_cut_14 : decode cX0_cut 14 = .ok (.sipush (-1001), 3) := dk_17 252 23 (dk_at dksX0_cut_0 14 rfl rfl)
theorem dX0_cut_17 : decode cX0_cut 17 = .ok (.invokevirtual 124, 3) := dk_182 0 124 (dk_at dksX0_cut_0 17 rfl rfl)
theorem dX0_cut_20 : decode cX0_cut 20 = .ok (.ireturn, 1) := dk_172 (dk_at dksX0_cut_0 20 rfl rfl)
theorem dX0_cut_21 : decode cX0_cut 21 = .ok (.iload_n 2, 1) := dk_28 (dk_at dksX0_cut_0 21 rfl rfl)
theorem dX0_cut_22 : decode cX0_cut 22 = .ok (.newarray .int, 2) := dk_188_10 (dk_at dksX0_cut_0 22 rfl rfl)
theorem dX0_cut_24 : decode cX0_cut 24 = .ok (.astore_n 3, 1) := dk_78 (dk_at dksX0_cut_1 0 rfl rfl)
theorem dX0_cut_25 : decode cX0_cut 25 = .ok (.aload_n 0, 1) := dk_42 (dk_at dksX0_cut_1 1 rfl rfl)
theorem dX0_cut_26 : decode cX0_cut 26 = .ok (.getfield 17, 3) := dk_180 0 17 (dk_at dksX0_cut_1 2 rfl rfl)
theorem dX0_cut_29 : decode cX0_cut 29 = .ok (.iload_n 1, 1) := dk_27 (dk_at dksX0_cut_1 5 rfl rfl)
theorem dX0_cut_30 : decode cX0_cut 30 = .ok (.aaload, 1) := dk_50 (dk_at dksX0_cut_1 6 rfl rfl)
theorem dX0_cut_31 : decode cX0_cut 31 = .ok (.iconst 0, 1) := dk_3 (dk_at dksX0_cut_1 7 rfl rfl)
theorem dX0_cut_32 : decode cX0_cut 32 = .ok (.aload_n 3, 1) := dk_45 (dk_at dksX0_cut_1 8 rfl rfl)
theorem dX0_cut_33 : decode cX0_cut 33 = .ok (.iconst 0, 1) := dk_3 (dk_at dksX0_cut_1 9 rfl rfl)
theorem dX0_cut_34 : decode cX0_cut 34 = .ok (.iload_n 2, 1) := dk_28 (dk_at dksX0_cut_1 10 rfl rfl)
theorem dX0_cut_35 : decode cX0_cut 35 = .ok (.invokestatic 144, 3) := dk_184 0 144 (dk_at dksX0_cut_1 11 rfl rfl)
theorem dX0_cut_38 : decode cX0_cut 38 = .ok (.aload_n 0, 1) := dk_42 (dk_at dksX0_cut_1 14 rfl rfl)
theorem dX0_cut_39 : decode cX0_cut 39 = .ok (.getfield 17, 3) := dk_180 0 17 (dk_at dksX0_cut_1 15 rfl rfl)
theorem dX0_cut_42 : decode cX0_cut 42 = .ok (.iload_n 1, 1) := dk_27 (dk_at dksX0_cut_1 18 rfl rfl)
theorem dX0_cut_43 : decode cX0_cut 43 = .ok (.aload_n 3, 1) := dk_45 (dk_at dksX0_cut_1 19 rfl rfl)
theorem dX0_cut_44 : decode cX0_cut 44 = .ok (.aastore, 1) := dk_83 (dk_at dksX0_cut_1 20 rfl rfl)
theorem dX0_cut_45 : decode cX0_cut 45 = .ok (.iload_n 2, 1) := dk_28 (dk_at dksX0_cut_1 21 rfl rfl)
theorem dX0_cut_46 : decode cX0_cut 46 = .ok (.ireturn, 1) := dk_172 (dk_at dksX0_cut_1 22 rfl rfl)
theorem dX0_cut_47 : decode cX0_cut 47 = .ok (.astore_n 3, 1) := dk_78 (dk_at dksX0_cut_1 23 rfl rfl)
theorem dX0_cut_48 : decode cX0_cut 48 = .ok (.aload_n 0, 1) := dk_42 (dk_at dksX0_cut_2 0 rfl rfl)
theorem dX0_cut_49 : decode cX0_cut 49 = .ok (.sipush (-1014), 3) := dk_17 252 10 (dk_at dksX0_cut_2 1 rfl rfl)
theorem dX0_cut_52 : decode cX0_cut 52 = .ok (.invokevirtual 124, 3) := dk_182 0 124 (dk_at dksX0_cut_2 4 rfl rfl)
theorem dX0_cut_55 : decode cX0_cut 55 = .ok (.ireturn, 1) := dk_172 (dk_at dksX0_cut_2 7 rfl rfl)
theorem dX0_cut_56 : decode cX0_cut 56 = .ok (.astore_n 3, 1) := dk_78 (dk_at dksX0_cut_2 8 rfl rfl)
theorem dX0_cut_57 : decode cX0_cut 57 = .ok (.aload_n 0, 1) := dk_42 (dk_at dksX0_cut_2 9 rfl rfl)
theorem dX0_cut_58 : decode cX0_cut 58 = .ok (.sipush (-1011), 3) := dk_17 252 13 (dk_at dksX0_cut_2 10 rfl rfl)
theorem dX0_cut_61 : decode cX0_cut 61 = .ok (.invokevirtual 124, 3) := dk_182 0 124 (dk_at dksX0_cut_2 13 rfl rfl)
theorem dX0_cut_64 : decode cX0_cut 64 = .ok (.ireturn, 1) := dk_172 (dk_at dksX0_cut_2 16 rfl rfl)
theorem dX0_cut_65 : decode cX0_cut 65 = .ok (.astore_n 3, 1) := dk_78 (dk_at dksX0_cut_2 17 rfl rfl)
theorem dX0_cut_66 : decode cX0_cut 66 = .ok (.aload_n 0, 1) := dk_42 (dk_at dksX0_cut_2 18 rfl rfl)
theorem dX0_cut_67 : decode cX0_cut 67 = .ok (.sipush (-1012), 3) := dk_17 252 12 (dk_at dksX0_cut_2 19 rfl rfl)
theorem dX0_cut_70 : decode cX0_cut 70 = .ok (.invokevirtual 124, 3) := dk_182 0 124 (dk_at dksX0_cut_3 0 rfl rfl)
theorem dX0_cut_73 : decode cX0_cut 73 = .ok (.ireturn, 1) := dk_172 (dk_at dksX0_cut_3 3 rfl rfl)
abbrev cX0_feed : ByteArray := prog_1_method_15_code
def yX0_feed : MethodName := ⟨RX0, "feed", "(JI)I"⟩
def dkwX0_feed_3 : List UInt8 := [123, 136, 145, 84, 132, 4, 255, 167, 255, 223, 42, 180, 0, 152, 172]
abbrev dktX0_feed_3 : List UInt8 := dkwX0_feed_3 ++ []
def dkwX0_feed_2 : List UInt8 := [155, 0, 34, 42, 180, 0, 21, 42, 89, 180, 0, 152, 90, 4, 96, 181, 0, 152, 31, 16, 8, 21, 4, 104]
abbrev dktX0_feed_2 : List UInt8 := dkwX0_feed_2 ++ dktX0_feed_3
def dkwX0_feed_1 : List UInt8 := [29, 96, 16, 60, 164, 0, 11, 42, 17, 252, 21, 182, 0, 124, 172, 29, 4, 100, 54, 4, 21, 4]
abbrev dktX0_feed_1 : List UInt8 := dkwX0_feed_1 ++ dktX0_feed_2
def dkwX0_feed_0 : List UInt8 := [29, 133, 10, 20, 0, 150, 184, 0, 109, 154, 0, 11, 42, 17, 252, 23, 182, 0, 124, 172, 42, 180, 0, 152]
abbrev dktX0_feed_0 : List UInt8 := dkwX0_feed_0 ++ dktX0_feed_1
theorem dksX0_feed_0 : cX0_feed.data.toList.drop 0 = dktX0_feed_0 := by decide +kernel
theorem dksX0_feed_1 : cX0_feed.data.toList.drop 24 = dktX0_feed_1 := dk_seg dksX0_feed_0 24 rfl rfl
theorem dksX0_feed_2 : cX0_feed.data.toList.drop 46 = dktX0_feed_2 := dk_seg dksX0_feed_1 22 rfl rfl
theorem dksX0_feed_3 : cX0_feed.data.toList.drop 70 = dktX0_feed_3 := dk_seg dksX0_feed_2 24 rfl rfl
theorem dX0_feed_0 : decode cX0_feed 0 = .ok (.iload_n 3, 1) := dk_29 (dk_at dksX0_feed_0 0 rfl rfl)
theorem dX0_feed_1 : decode cX0_feed 1 = .ok (.i2l, 1) := dk_133 (dk_at dksX0_feed_0 1 rfl rfl)
theorem dX0_feed_2 : decode cX0_feed 2 = .ok (.lconst 1, 1) := dk_10 (dk_at dksX0_feed_0 2 rfl rfl)
theorem dX0_feed_3 : decode cX0_feed 3 = .ok (.ldc2_w 150, 3) := dk_20 0 150 (dk_at dksX0_feed_0 3 rfl rfl)
theorem dX0_feed_6 : decode cX0_feed 6 = .ok (.invokestatic 109, 3) := dk_184 0 109 (dk_at dksX0_feed_0 6 rfl rfl)
theorem dX0_feed_9 : decode cX0_feed 9 = .ok (.ifCond .ne 11, 3) := dk_154 0 11 (dk_at dksX0_feed_0 9 rfl rfl)
theorem dX0_feed_12 : decode cX0_feed 12 = .ok (.aload_n 0, 1) := dk_42 (dk_at dksX0_feed_0 12 rfl rfl)
theorem dX0_feed_13 : decode cX0_feed 13 = .ok (.sipush (-1001), 3) := dk_17 252 23 (dk_at dksX0_feed_0 13 rfl rfl)
theorem dX0_feed_16 : decode cX0_feed 16 = .ok (.invokevirtual 124, 3) := dk_182 0 124 (dk_at dksX0_feed_0 16 rfl rfl)
theorem dX0_feed_19 : decode cX0_feed 19 = .ok (.ireturn, 1) := dk_172 (dk_at dksX0_feed_0 19 rfl rfl)
theorem dX0_feed_20 : decode cX0_feed 20 = .ok (.aload_n 0, 1) := dk_42 (dk_at dksX0_feed_0 20 rfl rfl)
theorem dX0_feed_21 : decode cX0_feed 21 = .ok (.getfield 152, 3) := dk_180 0 152 (dk_at dksX0_feed_0 21 rfl rfl)
theorem dX0_feed_24 : decode cX0_feed 24 = .ok (.iload_n 3, 1) := dk_29 (dk_at dksX0_feed_1 0 rfl rfl)
theorem dX0_feed_25 : decode cX0_feed 25 = .ok (.iadd, 1) := dk_96 (dk_at dksX0_feed_1 1 rfl rfl)
theorem dX0_feed_26 : decode cX0_feed 26 = .ok (.bipush 60, 2) := dk_16 60 (dk_at dksX0_feed_1 2 rfl rfl)
theorem dX0_feed_28 : decode cX0_feed 28 = .ok (.if_icmp .le 11, 3) := dk_164 0 11 (dk_at dksX0_feed_1 4 rfl rfl)
theorem dX0_feed_31 : decode cX0_feed 31 = .ok (.aload_n 0, 1) := dk_42 (dk_at dksX0_feed_1 7 rfl rfl)
theorem dX0_feed_32 : decode cX0_feed 32 = .ok (.sipush (-1003), 3) := dk_17 252 21 (dk_at dksX0_feed_1 8 rfl rfl)
theorem dX0_feed_35 : decode cX0_feed 35 = .ok (.invokevirtual 124, 3) := dk_182 0 124 (dk_at dksX0_feed_1 11 rfl rfl)
theorem dX0_feed_38 : decode cX0_feed 38 = .ok (.ireturn, 1) := dk_172 (dk_at dksX0_feed_1 14 rfl rfl)
theorem dX0_feed_39 : decode cX0_feed 39 = .ok (.iload_n 3, 1) := dk_29 (dk_at dksX0_feed_1 15 rfl rfl)
theorem dX0_feed_40 : decode cX0_feed 40 = .ok (.iconst 1, 1) := dk_4 (dk_at dksX0_feed_1 16 rfl rfl)
theorem dX0_feed_41 : decode cX0_feed 41 = .ok (.isub, 1) := dk_100 (dk_at dksX0_feed_1 17 rfl rfl)
theorem dX0_feed_42 : decode cX0_feed 42 = .ok (.istore 4, 2) := dk_54 4 (dk_at dksX0_feed_1 18 rfl rfl)
theorem dX0_feed_44 : decode cX0_feed 44 = .ok (.iload 4, 2) := dk_21 4 (dk_at dksX0_feed_1 20 rfl rfl)
theorem dX0_feed_46 : decode cX0_feed 46 = .ok (.ifCond .lt 34, 3) := dk_155 0 34 (dk_at dksX0_feed_2 0 rfl rfl)
theorem dX0_feed_49 : decode cX0_feed 49 = .ok (.aload_n 0, 1) := dk_42 (dk_at dksX0_feed_2 3 rfl rfl)
theorem dX0_feed_50 : decode cX0_feed 50 = .ok (.getfield 21, 3) := dk_180 0 21 (dk_at dksX0_feed_2 4 rfl rfl)
theorem dX0_feed_53 : decode cX0_feed 53 = .ok (.aload_n 0, 1) := dk_42 (dk_at dksX0_feed_2 7 rfl rfl)
theorem dX0_feed_54 : decode cX0_feed 54 = .ok (.dup, 1) := dk_89 (dk_at dksX0_feed_2 8 rfl rfl)
theorem dX0_feed_55 : decode cX0_feed 55 = .ok (.getfield 152, 3) := dk_180 0 152 (dk_at dksX0_feed_2 9 rfl rfl)
theorem dX0_feed_58 : decode cX0_feed 58 = .ok (.dup_x1, 1) := dk_90 (dk_at dksX0_feed_2 12 rfl rfl)
theorem dX0_feed_59 : decode cX0_feed 59 = .ok (.iconst 1, 1) := dk_4 (dk_at dksX0_feed_2 13 rfl rfl)
theorem dX0_feed_60 : decode cX0_feed 60 = .ok (.iadd, 1) := dk_96 (dk_at dksX0_feed_2 14 rfl rfl)
theorem dX0_feed_61 : decode cX0_feed 61 = .ok (.putfield 152, 3) := dk_181 0 152 (dk_at dksX0_feed_2 15 rfl rfl)
theorem dX0_feed_64 : decode cX0_feed 64 = .ok (.lload_n 1, 1) := dk_31 (dk_at dksX0_feed_2 18 rfl rfl)
theorem dX0_feed_65 : decode cX0_feed 65 = .ok (.bipush 8, 2) := dk_16 8 (dk_at dksX0_feed_2 19 rfl rfl)
theorem dX0_feed_67 : decode cX0_feed 67 = .ok (.iload 4, 2) := dk_21 4 (dk_at dksX0_feed_2 21 rfl rfl)
theorem dX0_feed_69 : decode cX0_feed 69 = .ok (.imul, 1) := dk_104 (dk_at dksX0_feed_2 23 rfl rfl)
theorem dX0_feed_70 : decode cX0_feed 70 = .ok (.lshr, 1) := dk_123 (dk_at dksX0_feed_3 0 rfl rfl)
theorem dX0_feed_71 : decode cX0_feed 71 = .ok (.l2i, 1) := dk_136 (dk_at dksX0_feed_3 1 rfl rfl)
theorem dX0_feed_72 : decode cX0_feed 72 = .ok (.i2b, 1) := dk_145 (dk_at dksX0_feed_3 2 rfl rfl)
theorem dX0_feed_73 : decode cX0_feed 73 = .ok (.bastore, 1) := dk_84 (dk_at dksX0_feed_3 3 rfl rfl)
theorem dX0_feed_74 : decode cX0_feed 74 = .ok (.iinc 4 (-1), 3) := dk_132 4 255 (dk_at dksX0_feed_3 4 rfl rfl)
theorem dX0_feed_77 : decode cX0_feed 77 = .ok (.goto (-33), 3) := dk_167 255 223 (dk_at dksX0_feed_3 7 rfl rfl)
theorem dX0_feed_80 : decode cX0_feed 80 = .ok (.aload_n 0, 1) := dk_42 (dk_at dksX0_feed_3 10 rfl rfl)
theorem dX0_feed_81 : decode cX0_feed 81 = .ok (.getfield 152, 3) := dk_180 0 152 (dk_at dksX0_feed_3 11 rfl rfl)
theorem dX0_feed_84 : decode cX0_feed 84 = .ok (.ireturn, 1) := dk_172 (dk_at dksX0_feed_3 14 rfl rfl)
abbrev cX0_wipe : ByteArray := prog_1_method_16_code
def yX0_wipe : MethodName := ⟨RX0, "wipe", "()I"⟩
def dkwX0_wipe_0 : List UInt8 := [42, 180, 0, 152, 60, 42, 3, 181, 0, 152, 27, 172]
abbrev dktX0_wipe_0 : List UInt8 := dkwX0_wipe_0 ++ []
theorem dksX0_wipe_0 : cX0_wipe.data.toList.drop 0 = dktX0_wipe_0 := by decide +kernel
theorem dX0_wipe_0 : decode cX0_wipe 0 = .ok (.aload_n 0, 1) := dk_42 (dk_at dksX0_wipe_0 0 rfl rfl)
theorem dX0_wipe_1 : decode cX0_wipe 1 = .ok (.getfield 152, 3) := dk_180 0 152 (dk_at dksX0_wipe_0 1 rfl rfl)
theorem dX0_wipe_4 : decode cX0_wipe 4 = .ok (.istore_n 1, 1) := dk_60 (dk_at dksX0_wipe_0 4 rfl rfl)
theorem dX0_wipe_5 : decode cX0_wipe 5 = .ok (.aload_n 0, 1) := dk_42 (dk_at dksX0_wipe_0 5 rfl rfl)
theorem dX0_wipe_6 : decode cX0_wipe 6 = .ok (.iconst 0, 1) := dk_3 (dk_at dksX0_wipe_0 6 rfl rfl)
theorem dX0_wipe_7 : decode cX0_wipe 7 = .ok (.putfield 152, 3) := dk_181 0 152 (dk_at dksX0_wipe_0 7 rfl rfl)
theorem dX0_wipe_10 : decode cX0_wipe 10 = .ok (.iload_n 1, 1) := dk_27 (dk_at dksX0_wipe_0 10 rfl rfl)
theorem dX0_wipe_11 : decode cX0_wipe 11 = .ok (.ireturn, 1) := dk_172 (dk_at dksX0_wipe_0 11 rfl rfl)
abbrev cX0_trace : ByteArray := prog_1_method_18_code
def yX0_trace : MethodName := ⟨RX0, "trace", "(I)I"⟩
def dkwX0_trace_1 : List UInt8 := [180, 0, 25, 42, 180, 0, 155, 4, 100, 27, 100, 16, 100, 112, 46, 167, 0, 6, 17, 252, 19, 172]
abbrev dktX0_trace_1 : List UInt8 := dkwX0_trace_1 ++ []
def dkwX0_trace_0 : List UInt8 := [27, 133, 9, 42, 180, 0, 155, 16, 100, 184, 0, 158, 4, 100, 133, 184, 0, 109, 153, 0, 22, 42]
abbrev dktX0_trace_0 : List UInt8 := dkwX0_trace_0 ++ dktX0_trace_1
theorem dksX0_trace_0 : cX0_trace.data.toList.drop 0 = dktX0_trace_0 := by decide +kernel
theorem dksX0_trace_1 : cX0_trace.data.toList.drop 22 = dktX0_trace_1 := dk_seg dksX0_trace_0 22 rfl rfl
theorem dX0_trace_0 : decode cX0_trace 0 = .ok (.iload_n 1, 1) := dk_27 (dk_at dksX0_trace_0 0 rfl rfl)
theorem dX0_trace_1 : decode cX0_trace 1 = .ok (.i2l, 1) := dk_133 (dk_at dksX0_trace_0 1 rfl rfl)
theorem dX0_trace_2 : decode cX0_trace 2 = .ok (.lconst 0, 1) := dk_9 (dk_at dksX0_trace_0 2 rfl rfl)
theorem dX0_trace_3 : decode cX0_trace 3 = .ok (.aload_n 0, 1) := dk_42 (dk_at dksX0_trace_0 3 rfl rfl)
theorem dX0_trace_4 : decode cX0_trace 4 = .ok (.getfield 155, 3) := dk_180 0 155 (dk_at dksX0_trace_0 4 rfl rfl)
theorem dX0_trace_7 : decode cX0_trace 7 = .ok (.bipush 100, 2) := dk_16 100 (dk_at dksX0_trace_0 7 rfl rfl)
theorem dX0_trace_9 : decode cX0_trace 9 = .ok (.invokestatic 158, 3) := dk_184 0 158 (dk_at dksX0_trace_0 9 rfl rfl)
theorem dX0_trace_12 : decode cX0_trace 12 = .ok (.iconst 1, 1) := dk_4 (dk_at dksX0_trace_0 12 rfl rfl)
theorem dX0_trace_13 : decode cX0_trace 13 = .ok (.isub, 1) := dk_100 (dk_at dksX0_trace_0 13 rfl rfl)
theorem dX0_trace_14 : decode cX0_trace 14 = .ok (.i2l, 1) := dk_133 (dk_at dksX0_trace_0 14 rfl rfl)
theorem dX0_trace_15 : decode cX0_trace 15 = .ok (.invokestatic 109, 3) := dk_184 0 109 (dk_at dksX0_trace_0 15 rfl rfl)
theorem dX0_trace_18 : decode cX0_trace 18 = .ok (.ifCond .eq 22, 3) := dk_153 0 22 (dk_at dksX0_trace_0 18 rfl rfl)
theorem dX0_trace_21 : decode cX0_trace 21 = .ok (.aload_n 0, 1) := dk_42 (dk_at dksX0_trace_0 21 rfl rfl)
theorem dX0_trace_22 : decode cX0_trace 22 = .ok (.getfield 25, 3) := dk_180 0 25 (dk_at dksX0_trace_1 0 rfl rfl)
theorem dX0_trace_25 : decode cX0_trace 25 = .ok (.aload_n 0, 1) := dk_42 (dk_at dksX0_trace_1 3 rfl rfl)
theorem dX0_trace_26 : decode cX0_trace 26 = .ok (.getfield 155, 3) := dk_180 0 155 (dk_at dksX0_trace_1 4 rfl rfl)
theorem dX0_trace_29 : decode cX0_trace 29 = .ok (.iconst 1, 1) := dk_4 (dk_at dksX0_trace_1 7 rfl rfl)
theorem dX0_trace_30 : decode cX0_trace 30 = .ok (.isub, 1) := dk_100 (dk_at dksX0_trace_1 8 rfl rfl)
theorem dX0_trace_31 : decode cX0_trace 31 = .ok (.iload_n 1, 1) := dk_27 (dk_at dksX0_trace_1 9 rfl rfl)
theorem dX0_trace_32 : decode cX0_trace 32 = .ok (.isub, 1) := dk_100 (dk_at dksX0_trace_1 10 rfl rfl)
theorem dX0_trace_33 : decode cX0_trace 33 = .ok (.bipush 100, 2) := dk_16 100 (dk_at dksX0_trace_1 11 rfl rfl)
theorem dX0_trace_35 : decode cX0_trace 35 = .ok (.irem, 1) := dk_112 (dk_at dksX0_trace_1 13 rfl rfl)
theorem dX0_trace_36 : decode cX0_trace 36 = .ok (.iaload, 1) := dk_46 (dk_at dksX0_trace_1 14 rfl rfl)
theorem dX0_trace_37 : decode cX0_trace 37 = .ok (.goto 6, 3) := dk_167 0 6 (dk_at dksX0_trace_1 15 rfl rfl)
theorem dX0_trace_40 : decode cX0_trace 40 = .ok (.sipush (-1005), 3) := dk_17 252 19 (dk_at dksX0_trace_1 18 rfl rfl)
theorem dX0_trace_43 : decode cX0_trace 43 = .ok (.ireturn, 1) := dk_172 (dk_at dksX0_trace_1 21 rfl rfl)
abbrev cX0_out : ByteArray := prog_1_method_22_code
def yX0_out : MethodName := ⟨RX0, "out", "(I)I"⟩
def dkwX0_out_1 : List UInt8 := [17, 0, 255, 126, 167, 0, 6, 17, 252, 19, 172]
abbrev dktX0_out_1 : List UInt8 := dkwX0_out_1 ++ []
def dkwX0_out_0 : List UInt8 := [27, 133, 9, 42, 180, 0, 162, 4, 100, 133, 184, 0, 109, 153, 0, 16, 42, 180, 0, 28, 27, 51]
abbrev dktX0_out_0 : List UInt8 := dkwX0_out_0 ++ dktX0_out_1
theorem dksX0_out_0 : cX0_out.data.toList.drop 0 = dktX0_out_0 := by decide +kernel
theorem dksX0_out_1 : cX0_out.data.toList.drop 22 = dktX0_out_1 := dk_seg dksX0_out_0 22 rfl rfl
theorem dX0_out_0 : decode cX0_out 0 = .ok (.iload_n 1, 1) := dk_27 (dk_at dksX0_out_0 0 rfl rfl)
theorem dX0_out_1 : decode cX0_out 1 = .ok (.i2l, 1) := dk_133 (dk_at dksX0_out_0 1 rfl rfl)
theorem dX0_out_2 : decode cX0_out 2 = .ok (.lconst 0, 1) := dk_9 (dk_at dksX0_out_0 2 rfl rfl)
theorem dX0_out_3 : decode cX0_out 3 = .ok (.aload_n 0, 1) := dk_42 (dk_at dksX0_out_0 3 rfl rfl)
theorem dX0_out_4 : decode cX0_out 4 = .ok (.getfield 162, 3) := dk_180 0 162 (dk_at dksX0_out_0 4 rfl rfl)
theorem dX0_out_7 : decode cX0_out 7 = .ok (.iconst 1, 1) := dk_4 (dk_at dksX0_out_0 7 rfl rfl)
theorem dX0_out_8 : decode cX0_out 8 = .ok (.isub, 1) := dk_100 (dk_at dksX0_out_0 8 rfl rfl)
theorem dX0_out_9 : decode cX0_out 9 = .ok (.i2l, 1) := dk_133 (dk_at dksX0_out_0 9 rfl rfl)
theorem dX0_out_10 : decode cX0_out 10 = .ok (.invokestatic 109, 3) := dk_184 0 109 (dk_at dksX0_out_0 10 rfl rfl)
theorem dX0_out_13 : decode cX0_out 13 = .ok (.ifCond .eq 16, 3) := dk_153 0 16 (dk_at dksX0_out_0 13 rfl rfl)
theorem dX0_out_16 : decode cX0_out 16 = .ok (.aload_n 0, 1) := dk_42 (dk_at dksX0_out_0 16 rfl rfl)
theorem dX0_out_17 : decode cX0_out 17 = .ok (.getfield 28, 3) := dk_180 0 28 (dk_at dksX0_out_0 17 rfl rfl)
theorem dX0_out_20 : decode cX0_out 20 = .ok (.iload_n 1, 1) := dk_27 (dk_at dksX0_out_0 20 rfl rfl)
theorem dX0_out_21 : decode cX0_out 21 = .ok (.baload, 1) := dk_51 (dk_at dksX0_out_0 21 rfl rfl)
theorem dX0_out_22 : decode cX0_out 22 = .ok (.sipush 255, 3) := dk_17 0 255 (dk_at dksX0_out_1 0 rfl rfl)
theorem dX0_out_25 : decode cX0_out 25 = .ok (.iand, 1) := dk_126 (dk_at dksX0_out_1 3 rfl rfl)
theorem dX0_out_26 : decode cX0_out 26 = .ok (.goto 6, 3) := dk_167 0 6 (dk_at dksX0_out_1 4 rfl rfl)
theorem dX0_out_29 : decode cX0_out 29 = .ok (.sipush (-1005), 3) := dk_17 252 19 (dk_at dksX0_out_1 7 rfl rfl)
theorem dX0_out_32 : decode cX0_out 32 = .ok (.ireturn, 1) := dk_172 (dk_at dksX0_out_1 10 rfl rfl)
abbrev cX0_clause : ByteArray := prog_1_method_35_code
def yX0_clause : MethodName := ⟨RX0, "clause", "(I)I"⟩
def dkwX0_clause_0 : List UInt8 := [42, 3, 27, 3, 3, 182, 0, 254, 172]
abbrev dktX0_clause_0 : List UInt8 := dkwX0_clause_0 ++ []
theorem dksX0_clause_0 : cX0_clause.data.toList.drop 0 = dktX0_clause_0 := by decide +kernel
theorem dX0_clause_0 : decode cX0_clause 0 = .ok (.aload_n 0, 1) := dk_42 (dk_at dksX0_clause_0 0 rfl rfl)
theorem dX0_clause_1 : decode cX0_clause 1 = .ok (.iconst 0, 1) := dk_3 (dk_at dksX0_clause_0 1 rfl rfl)
theorem dX0_clause_2 : decode cX0_clause 2 = .ok (.iload_n 1, 1) := dk_27 (dk_at dksX0_clause_0 2 rfl rfl)
theorem dX0_clause_3 : decode cX0_clause 3 = .ok (.iconst 0, 1) := dk_3 (dk_at dksX0_clause_0 3 rfl rfl)
theorem dX0_clause_4 : decode cX0_clause 4 = .ok (.iconst 0, 1) := dk_3 (dk_at dksX0_clause_0 4 rfl rfl)
theorem dX0_clause_5 : decode cX0_clause 5 = .ok (.invokevirtual 254, 3) := dk_182 0 254 (dk_at dksX0_clause_0 5 rfl rfl)
theorem dX0_clause_8 : decode cX0_clause 8 = .ok (.ireturn, 1) := dk_172 (dk_at dksX0_clause_0 8 rfl rfl)
abbrev cX0_come : ByteArray := prog_1_method_34_code
def yX0_come : MethodName := ⟨RX0, "come", "(IIIZ)I"⟩
def dkwX0_come_3 : List UInt8 := [182, 0, 124, 172]
abbrev dktX0_come_3 : List UInt8 := dkwX0_come_3 ++ []
def dkwX0_come_2 : List UInt8 := [42, 25, 5, 182, 0, 250, 172, 58, 5, 42, 17, 252, 13, 182, 0, 124, 172, 58, 5, 42, 17, 252, 12]
abbrev dktX0_come_2 : List UInt8 := dkwX0_come_2 ++ dktX0_come_3
def dkwX0_come_1 : List UInt8 := [182, 0, 124, 172, 42, 27, 28, 29, 21, 4, 182, 0, 240, 58, 5, 42, 182, 0, 244, 25, 5, 182, 0, 247]
abbrev dktX0_come_1 : List UInt8 := dkwX0_come_1 ++ dktX0_come_2
def dkwX0_come_0 : List UInt8 := [28, 184, 0, 132, 153, 0, 15, 29, 133, 9, 20, 0, 238, 184, 0, 109, 154, 0, 11, 42, 17, 252, 23]
abbrev dktX0_come_0 : List UInt8 := dkwX0_come_0 ++ dktX0_come_1
theorem dksX0_come_0 : cX0_come.data.toList.drop 0 = dktX0_come_0 := by decide +kernel
theorem dksX0_come_1 : cX0_come.data.toList.drop 23 = dktX0_come_1 := dk_seg dksX0_come_0 23 rfl rfl
theorem dksX0_come_2 : cX0_come.data.toList.drop 47 = dktX0_come_2 := dk_seg dksX0_come_1 24 rfl rfl
theorem dksX0_come_3 : cX0_come.data.toList.drop 70 = dktX0_come_3 := dk_seg dksX0_come_2 23 rfl rfl
theorem dX0_come_0 : decode cX0_come 0 = .ok (.iload_n 2, 1) := dk_28 (dk_at dksX0_come_0 0 rfl rfl)
theorem dX0_come_1 : decode cX0_come 1 = .ok (.invokestatic 132, 3) := dk_184 0 132 (dk_at dksX0_come_0 1 rfl rfl)
theorem dX0_come_4 : decode cX0_come 4 = .ok (.ifCond .eq 15, 3) := dk_153 0 15 (dk_at dksX0_come_0 4 rfl rfl)
theorem dX0_come_7 : decode cX0_come 7 = .ok (.iload_n 3, 1) := dk_29 (dk_at dksX0_come_0 7 rfl rfl)
theorem dX0_come_8 : decode cX0_come 8 = .ok (.i2l, 1) := dk_133 (dk_at dksX0_come_0 8 rfl rfl)
theorem dX0_come_9 : decode cX0_come 9 = .ok (.lconst 0, 1) := dk_9 (dk_at dksX0_come_0 9 rfl rfl)
theorem dX0_come_10 : decode cX0_come 10 = .ok (.ldc2_w 238, 3) := dk_20 0 238 (dk_at dksX0_come_0 10 rfl rfl)
theorem dX0_come_13 : decode cX0_come 13 = .ok (.invokestatic 109, 3) := dk_184 0 109 (dk_at dksX0_come_0 13 rfl rfl)
theorem dX0_come_16 : decode cX0_come 16 = .ok (.ifCond .ne 11, 3) := dk_154 0 11 (dk_at dksX0_come_0 16 rfl rfl)
theorem dX0_come_19 : decode cX0_come 19 = .ok (.aload_n 0, 1) := dk_42 (dk_at dksX0_come_0 19 rfl rfl)
theorem dX0_come_20 : decode cX0_come 20 = .ok (.sipush (-1001), 3) := dk_17 252 23 (dk_at dksX0_come_0 20 rfl rfl)
theorem dX0_come_23 : decode cX0_come 23 = .ok (.invokevirtual 124, 3) := dk_182 0 124 (dk_at dksX0_come_1 0 rfl rfl)
theorem dX0_come_26 : decode cX0_come 26 = .ok (.ireturn, 1) := dk_172 (dk_at dksX0_come_1 3 rfl rfl)
theorem dX0_come_27 : decode cX0_come 27 = .ok (.aload_n 0, 1) := dk_42 (dk_at dksX0_come_1 4 rfl rfl)
theorem dX0_come_28 : decode cX0_come 28 = .ok (.iload_n 1, 1) := dk_27 (dk_at dksX0_come_1 5 rfl rfl)
theorem dX0_come_29 : decode cX0_come 29 = .ok (.iload_n 2, 1) := dk_28 (dk_at dksX0_come_1 6 rfl rfl)
theorem dX0_come_30 : decode cX0_come 30 = .ok (.iload_n 3, 1) := dk_29 (dk_at dksX0_come_1 7 rfl rfl)
theorem dX0_come_31 : decode cX0_come 31 = .ok (.iload 4, 2) := dk_21 4 (dk_at dksX0_come_1 8 rfl rfl)
theorem dX0_come_33 : decode cX0_come 33 = .ok (.invokevirtual 240, 3) := dk_182 0 240 (dk_at dksX0_come_1 10 rfl rfl)
theorem dX0_come_36 : decode cX0_come 36 = .ok (.astore 5, 2) := dk_58 5 (dk_at dksX0_come_1 13 rfl rfl)
theorem dX0_come_38 : decode cX0_come 38 = .ok (.aload_n 0, 1) := dk_42 (dk_at dksX0_come_1 15 rfl rfl)
theorem dX0_come_39 : decode cX0_come 39 = .ok (.invokevirtual 244, 3) := dk_182 0 244 (dk_at dksX0_come_1 16 rfl rfl)
theorem dX0_come_42 : decode cX0_come 42 = .ok (.aload 5, 2) := dk_25 5 (dk_at dksX0_come_1 19 rfl rfl)
theorem dX0_come_44 : decode cX0_come 44 = .ok (.invokevirtual 247, 3) := dk_182 0 247 (dk_at dksX0_come_1 21 rfl rfl)
theorem dX0_come_47 : decode cX0_come 47 = .ok (.aload_n 0, 1) := dk_42 (dk_at dksX0_come_2 0 rfl rfl)
theorem dX0_come_48 : decode cX0_come 48 = .ok (.aload 5, 2) := dk_25 5 (dk_at dksX0_come_2 1 rfl rfl)
theorem dX0_come_50 : decode cX0_come 50 = .ok (.invokevirtual 250, 3) := dk_182 0 250 (dk_at dksX0_come_2 3 rfl rfl)
theorem dX0_come_53 : decode cX0_come 53 = .ok (.ireturn, 1) := dk_172 (dk_at dksX0_come_2 6 rfl rfl)
theorem dX0_come_54 : decode cX0_come 54 = .ok (.astore 5, 2) := dk_58 5 (dk_at dksX0_come_2 7 rfl rfl)
theorem dX0_come_56 : decode cX0_come 56 = .ok (.aload_n 0, 1) := dk_42 (dk_at dksX0_come_2 9 rfl rfl)
theorem dX0_come_57 : decode cX0_come 57 = .ok (.sipush (-1011), 3) := dk_17 252 13 (dk_at dksX0_come_2 10 rfl rfl)
theorem dX0_come_60 : decode cX0_come 60 = .ok (.invokevirtual 124, 3) := dk_182 0 124 (dk_at dksX0_come_2 13 rfl rfl)
theorem dX0_come_63 : decode cX0_come 63 = .ok (.ireturn, 1) := dk_172 (dk_at dksX0_come_2 16 rfl rfl)
theorem dX0_come_64 : decode cX0_come 64 = .ok (.astore 5, 2) := dk_58 5 (dk_at dksX0_come_2 17 rfl rfl)
theorem dX0_come_66 : decode cX0_come 66 = .ok (.aload_n 0, 1) := dk_42 (dk_at dksX0_come_2 19 rfl rfl)
theorem dX0_come_67 : decode cX0_come 67 = .ok (.sipush (-1012), 3) := dk_17 252 12 (dk_at dksX0_come_2 20 rfl rfl)
theorem dX0_come_70 : decode cX0_come 70 = .ok (.invokevirtual 124, 3) := dk_182 0 124 (dk_at dksX0_come_3 0 rfl rfl)
theorem dX0_come_73 : decode cX0_come 73 = .ok (.ireturn, 1) := dk_172 (dk_at dksX0_come_3 3 rfl rfl)
abbrev cX0_made : ByteArray := prog_1_method_33_code
def yX0_made : MethodName := ⟨RX0, "made", "(IIIZ)LClauseCourt$Rule;"⟩
def dkwX0_made_4 : List UInt8 := [183, 0, 235, 176]
abbrev dktX0_made_4 : List UInt8 := dkwX0_made_4 ++ []
def dkwX0_made_3 : List UInt8 := [176, 187, 0, 228, 89, 42, 25, 5, 29, 183, 0, 230, 176, 187, 0, 233, 89, 42, 25, 5, 21, 4]
abbrev dktX0_made_3 : List UInt8 := dkwX0_made_3 ++ dktX0_made_4
def dkwX0_made_2 : List UInt8 := [187, 0, 218, 89, 42, 3, 25, 5, 183, 0, 220, 176, 187, 0, 223, 89, 42, 4, 25, 5, 29, 183, 0, 225]
abbrev dktX0_made_2 : List UInt8 := dkwX0_made_2 ++ dktX0_made_3
def dkwX0_made_1 : List UInt8 := [170, 0, 0, 0, 0, 0, 0, 65, 0, 0, 0, 0, 0, 0, 0, 2, 0, 0, 0, 28, 0, 0, 0, 40, 0, 0, 0, 53]
abbrev dktX0_made_1 : List UInt8 := dkwX0_made_1 ++ dktX0_made_2
def dkwX0_made_0 : List UInt8 := [42, 28, 182, 0, 214, 58, 5, 27]
abbrev dktX0_made_0 : List UInt8 := dkwX0_made_0 ++ dktX0_made_1
theorem dksX0_made_0 : cX0_made.data.toList.drop 0 = dktX0_made_0 := by decide +kernel
theorem dksX0_made_1 : cX0_made.data.toList.drop 8 = dktX0_made_1 := dk_seg dksX0_made_0 8 rfl rfl
theorem dksX0_made_2 : cX0_made.data.toList.drop 36 = dktX0_made_2 := dk_seg dksX0_made_1 28 rfl rfl
theorem dksX0_made_3 : cX0_made.data.toList.drop 60 = dktX0_made_3 := dk_seg dksX0_made_2 24 rfl rfl
theorem dksX0_made_4 : cX0_made.data.toList.drop 82 = dktX0_made_4 := dk_seg dksX0_made_3 22 rfl rfl
theorem dX0_made_0 : decode cX0_made 0 = .ok (.aload_n 0, 1) := dk_42 (dk_at dksX0_made_0 0 rfl rfl)
theorem dX0_made_1 : decode cX0_made 1 = .ok (.iload_n 2, 1) := dk_28 (dk_at dksX0_made_0 1 rfl rfl)
theorem dX0_made_2 : decode cX0_made 2 = .ok (.invokevirtual 214, 3) := dk_182 0 214 (dk_at dksX0_made_0 2 rfl rfl)
theorem dX0_made_5 : decode cX0_made 5 = .ok (.astore 5, 2) := dk_58 5 (dk_at dksX0_made_0 5 rfl rfl)
theorem dX0_made_7 : decode cX0_made 7 = .ok (.iload_n 1, 1) := dk_27 (dk_at dksX0_made_0 7 rfl rfl)
theorem dX0_made_8 : decode cX0_made 8 = .ok (.tableswitch 65 0 2 #[28, 40, 53], 28) := by decide +kernel
theorem dX0_made_36 : decode cX0_made 36 = .ok (.new 218, 3) := dk_187 0 218 (dk_at dksX0_made_2 0 rfl rfl)
theorem dX0_made_39 : decode cX0_made 39 = .ok (.dup, 1) := dk_89 (dk_at dksX0_made_2 3 rfl rfl)
theorem dX0_made_40 : decode cX0_made 40 = .ok (.aload_n 0, 1) := dk_42 (dk_at dksX0_made_2 4 rfl rfl)
theorem dX0_made_41 : decode cX0_made 41 = .ok (.iconst 0, 1) := dk_3 (dk_at dksX0_made_2 5 rfl rfl)
theorem dX0_made_42 : decode cX0_made 42 = .ok (.aload 5, 2) := dk_25 5 (dk_at dksX0_made_2 6 rfl rfl)
theorem dX0_made_44 : decode cX0_made 44 = .ok (.invokespecial 220, 3) := dk_183 0 220 (dk_at dksX0_made_2 8 rfl rfl)
theorem dX0_made_47 : decode cX0_made 47 = .ok (.areturn, 1) := dk_176 (dk_at dksX0_made_2 11 rfl rfl)
theorem dX0_made_48 : decode cX0_made 48 = .ok (.new 223, 3) := dk_187 0 223 (dk_at dksX0_made_2 12 rfl rfl)
theorem dX0_made_51 : decode cX0_made 51 = .ok (.dup, 1) := dk_89 (dk_at dksX0_made_2 15 rfl rfl)
theorem dX0_made_52 : decode cX0_made 52 = .ok (.aload_n 0, 1) := dk_42 (dk_at dksX0_made_2 16 rfl rfl)
theorem dX0_made_53 : decode cX0_made 53 = .ok (.iconst 1, 1) := dk_4 (dk_at dksX0_made_2 17 rfl rfl)
theorem dX0_made_54 : decode cX0_made 54 = .ok (.aload 5, 2) := dk_25 5 (dk_at dksX0_made_2 18 rfl rfl)
theorem dX0_made_56 : decode cX0_made 56 = .ok (.iload_n 3, 1) := dk_29 (dk_at dksX0_made_2 20 rfl rfl)
theorem dX0_made_57 : decode cX0_made 57 = .ok (.invokespecial 225, 3) := dk_183 0 225 (dk_at dksX0_made_2 21 rfl rfl)
theorem dX0_made_60 : decode cX0_made 60 = .ok (.areturn, 1) := dk_176 (dk_at dksX0_made_3 0 rfl rfl)
theorem dX0_made_61 : decode cX0_made 61 = .ok (.new 228, 3) := dk_187 0 228 (dk_at dksX0_made_3 1 rfl rfl)
theorem dX0_made_64 : decode cX0_made 64 = .ok (.dup, 1) := dk_89 (dk_at dksX0_made_3 4 rfl rfl)
theorem dX0_made_65 : decode cX0_made 65 = .ok (.aload_n 0, 1) := dk_42 (dk_at dksX0_made_3 5 rfl rfl)
theorem dX0_made_66 : decode cX0_made 66 = .ok (.aload 5, 2) := dk_25 5 (dk_at dksX0_made_3 6 rfl rfl)
theorem dX0_made_68 : decode cX0_made 68 = .ok (.iload_n 3, 1) := dk_29 (dk_at dksX0_made_3 8 rfl rfl)
theorem dX0_made_69 : decode cX0_made 69 = .ok (.invokespecial 230, 3) := dk_183 0 230 (dk_at dksX0_made_3 9 rfl rfl)
theorem dX0_made_72 : decode cX0_made 72 = .ok (.areturn, 1) := dk_176 (dk_at dksX0_made_3 12 rfl rfl)
theorem dX0_made_73 : decode cX0_made 73 = .ok (.new 233, 3) := dk_187 0 233 (dk_at dksX0_made_3 13 rfl rfl)
theorem dX0_made_76 : decode cX0_made 76 = .ok (.dup, 1) := dk_89 (dk_at dksX0_made_3 16 rfl rfl)
theorem dX0_made_77 : decode cX0_made 77 = .ok (.aload_n 0, 1) := dk_42 (dk_at dksX0_made_3 17 rfl rfl)
theorem dX0_made_78 : decode cX0_made 78 = .ok (.aload 5, 2) := dk_25 5 (dk_at dksX0_made_3 18 rfl rfl)
theorem dX0_made_80 : decode cX0_made 80 = .ok (.iload 4, 2) := dk_21 4 (dk_at dksX0_made_3 20 rfl rfl)
theorem dX0_made_82 : decode cX0_made 82 = .ok (.invokespecial 235, 3) := dk_183 0 235 (dk_at dksX0_made_4 0 rfl rfl)
theorem dX0_made_85 : decode cX0_made 85 = .ok (.areturn, 1) := dk_176 (dk_at dksX0_made_4 3 rfl rfl)
abbrev cX0_itemsOf : ByteArray := prog_1_method_32_code
def yX0_itemsOf : MethodName := ⟨RX0, "itemsOf", "(I)[I"⟩
def dkwX0_itemsOf_1 : List UInt8 := [21, 4, 42, 44, 21, 4, 46, 182, 0, 211, 79, 132, 4, 1, 167, 255, 234, 45, 176]
abbrev dktX0_itemsOf_1 : List UInt8 := dkwX0_itemsOf_1 ++ []
def dkwX0_itemsOf_0 : List UInt8 := [42, 180, 0, 17, 27, 50, 77, 44, 190, 188, 10, 78, 3, 54, 4, 21, 4, 44, 190, 162, 0, 21, 45]
abbrev dktX0_itemsOf_0 : List UInt8 := dkwX0_itemsOf_0 ++ dktX0_itemsOf_1
theorem dksX0_itemsOf_0 : cX0_itemsOf.data.toList.drop 0 = dktX0_itemsOf_0 := by decide +kernel
theorem dksX0_itemsOf_1 : cX0_itemsOf.data.toList.drop 23 = dktX0_itemsOf_1 := dk_seg dksX0_itemsOf_0 23 rfl rfl
theorem dX0_itemsOf_0 : decode cX0_itemsOf 0 = .ok (.aload_n 0, 1) := dk_42 (dk_at dksX0_itemsOf_0 0 rfl rfl)
theorem dX0_itemsOf_1 : decode cX0_itemsOf 1 = .ok (.getfield 17, 3) := dk_180 0 17 (dk_at dksX0_itemsOf_0 1 rfl rfl)
theorem dX0_itemsOf_4 : decode cX0_itemsOf 4 = .ok (.iload_n 1, 1) := dk_27 (dk_at dksX0_itemsOf_0 4 rfl rfl)
theorem dX0_itemsOf_5 : decode cX0_itemsOf 5 = .ok (.aaload, 1) := dk_50 (dk_at dksX0_itemsOf_0 5 rfl rfl)
theorem dX0_itemsOf_6 : decode cX0_itemsOf 6 = .ok (.astore_n 2, 1) := dk_77 (dk_at dksX0_itemsOf_0 6 rfl rfl)
theorem dX0_itemsOf_7 : decode cX0_itemsOf 7 = .ok (.aload_n 2, 1) := dk_44 (dk_at dksX0_itemsOf_0 7 rfl rfl)
theorem dX0_itemsOf_8 : decode cX0_itemsOf 8 = .ok (.arraylength, 1) := dk_190 (dk_at dksX0_itemsOf_0 8 rfl rfl)
theorem dX0_itemsOf_9 : decode cX0_itemsOf 9 = .ok (.newarray .int, 2) := dk_188_10 (dk_at dksX0_itemsOf_0 9 rfl rfl)
theorem dX0_itemsOf_11 : decode cX0_itemsOf 11 = .ok (.astore_n 3, 1) := dk_78 (dk_at dksX0_itemsOf_0 11 rfl rfl)
theorem dX0_itemsOf_12 : decode cX0_itemsOf 12 = .ok (.iconst 0, 1) := dk_3 (dk_at dksX0_itemsOf_0 12 rfl rfl)
theorem dX0_itemsOf_13 : decode cX0_itemsOf 13 = .ok (.istore 4, 2) := dk_54 4 (dk_at dksX0_itemsOf_0 13 rfl rfl)
theorem dX0_itemsOf_15 : decode cX0_itemsOf 15 = .ok (.iload 4, 2) := dk_21 4 (dk_at dksX0_itemsOf_0 15 rfl rfl)
theorem dX0_itemsOf_17 : decode cX0_itemsOf 17 = .ok (.aload_n 2, 1) := dk_44 (dk_at dksX0_itemsOf_0 17 rfl rfl)
theorem dX0_itemsOf_18 : decode cX0_itemsOf 18 = .ok (.arraylength, 1) := dk_190 (dk_at dksX0_itemsOf_0 18 rfl rfl)
theorem dX0_itemsOf_19 : decode cX0_itemsOf 19 = .ok (.if_icmp .ge 21, 3) := dk_162 0 21 (dk_at dksX0_itemsOf_0 19 rfl rfl)
theorem dX0_itemsOf_22 : decode cX0_itemsOf 22 = .ok (.aload_n 3, 1) := dk_45 (dk_at dksX0_itemsOf_0 22 rfl rfl)
theorem dX0_itemsOf_23 : decode cX0_itemsOf 23 = .ok (.iload 4, 2) := dk_21 4 (dk_at dksX0_itemsOf_1 0 rfl rfl)
theorem dX0_itemsOf_25 : decode cX0_itemsOf 25 = .ok (.aload_n 0, 1) := dk_42 (dk_at dksX0_itemsOf_1 2 rfl rfl)
theorem dX0_itemsOf_26 : decode cX0_itemsOf 26 = .ok (.aload_n 2, 1) := dk_44 (dk_at dksX0_itemsOf_1 3 rfl rfl)
theorem dX0_itemsOf_27 : decode cX0_itemsOf 27 = .ok (.iload 4, 2) := dk_21 4 (dk_at dksX0_itemsOf_1 4 rfl rfl)
theorem dX0_itemsOf_29 : decode cX0_itemsOf 29 = .ok (.iaload, 1) := dk_46 (dk_at dksX0_itemsOf_1 6 rfl rfl)
theorem dX0_itemsOf_30 : decode cX0_itemsOf 30 = .ok (.invokevirtual 211, 3) := dk_182 0 211 (dk_at dksX0_itemsOf_1 7 rfl rfl)
theorem dX0_itemsOf_33 : decode cX0_itemsOf 33 = .ok (.iastore, 1) := dk_79 (dk_at dksX0_itemsOf_1 10 rfl rfl)
theorem dX0_itemsOf_34 : decode cX0_itemsOf 34 = .ok (.iinc 4 1, 3) := dk_132 4 1 (dk_at dksX0_itemsOf_1 11 rfl rfl)
theorem dX0_itemsOf_37 : decode cX0_itemsOf 37 = .ok (.goto (-22), 3) := dk_167 255 234 (dk_at dksX0_itemsOf_1 14 rfl rfl)
theorem dX0_itemsOf_40 : decode cX0_itemsOf 40 = .ok (.aload_n 3, 1) := dk_45 (dk_at dksX0_itemsOf_1 17 rfl rfl)
theorem dX0_itemsOf_41 : decode cX0_itemsOf 41 = .ok (.areturn, 1) := dk_176 (dk_at dksX0_itemsOf_1 18 rfl rfl)
abbrev cX0_itemOf : ByteArray := prog_1_method_6_code
def yX0_itemOf : MethodName := ⟨RX0, "itemOf", "(I)I"⟩
def dkwX0_itemOf_1 : List UInt8 := [44, 180, 0, 119, 172]
abbrev dktX0_itemOf_1 : List UInt8 := dkwX0_itemOf_1 ++ []
def dkwX0_itemOf_0 : List UInt8 := [42, 180, 0, 11, 27, 184, 0, 113, 4, 100, 50, 77, 27, 156, 0, 11, 44, 180, 0, 119, 116, 167, 0, 7]
abbrev dktX0_itemOf_0 : List UInt8 := dkwX0_itemOf_0 ++ dktX0_itemOf_1
theorem dksX0_itemOf_0 : cX0_itemOf.data.toList.drop 0 = dktX0_itemOf_0 := by decide +kernel
theorem dksX0_itemOf_1 : cX0_itemOf.data.toList.drop 24 = dktX0_itemOf_1 := dk_seg dksX0_itemOf_0 24 rfl rfl
theorem dX0_itemOf_0 : decode cX0_itemOf 0 = .ok (.aload_n 0, 1) := dk_42 (dk_at dksX0_itemOf_0 0 rfl rfl)
theorem dX0_itemOf_1 : decode cX0_itemOf 1 = .ok (.getfield 11, 3) := dk_180 0 11 (dk_at dksX0_itemOf_0 1 rfl rfl)
theorem dX0_itemOf_4 : decode cX0_itemOf 4 = .ok (.iload_n 1, 1) := dk_27 (dk_at dksX0_itemOf_0 4 rfl rfl)
theorem dX0_itemOf_5 : decode cX0_itemOf 5 = .ok (.invokestatic 113, 3) := dk_184 0 113 (dk_at dksX0_itemOf_0 5 rfl rfl)
theorem dX0_itemOf_8 : decode cX0_itemOf 8 = .ok (.iconst 1, 1) := dk_4 (dk_at dksX0_itemOf_0 8 rfl rfl)
theorem dX0_itemOf_9 : decode cX0_itemOf 9 = .ok (.isub, 1) := dk_100 (dk_at dksX0_itemOf_0 9 rfl rfl)
theorem dX0_itemOf_10 : decode cX0_itemOf 10 = .ok (.aaload, 1) := dk_50 (dk_at dksX0_itemOf_0 10 rfl rfl)
theorem dX0_itemOf_11 : decode cX0_itemOf 11 = .ok (.astore_n 2, 1) := dk_77 (dk_at dksX0_itemOf_0 11 rfl rfl)
theorem dX0_itemOf_12 : decode cX0_itemOf 12 = .ok (.iload_n 1, 1) := dk_27 (dk_at dksX0_itemOf_0 12 rfl rfl)
theorem dX0_itemOf_13 : decode cX0_itemOf 13 = .ok (.ifCond .ge 11, 3) := dk_156 0 11 (dk_at dksX0_itemOf_0 13 rfl rfl)
theorem dX0_itemOf_16 : decode cX0_itemOf 16 = .ok (.aload_n 2, 1) := dk_44 (dk_at dksX0_itemOf_0 16 rfl rfl)
theorem dX0_itemOf_17 : decode cX0_itemOf 17 = .ok (.getfield 119, 3) := dk_180 0 119 (dk_at dksX0_itemOf_0 17 rfl rfl)
theorem dX0_itemOf_20 : decode cX0_itemOf 20 = .ok (.ineg, 1) := dk_116 (dk_at dksX0_itemOf_0 20 rfl rfl)
theorem dX0_itemOf_21 : decode cX0_itemOf 21 = .ok (.goto 7, 3) := dk_167 0 7 (dk_at dksX0_itemOf_0 21 rfl rfl)
theorem dX0_itemOf_24 : decode cX0_itemOf 24 = .ok (.aload_n 2, 1) := dk_44 (dk_at dksX0_itemOf_1 0 rfl rfl)
theorem dX0_itemOf_25 : decode cX0_itemOf 25 = .ok (.getfield 119, 3) := dk_180 0 119 (dk_at dksX0_itemOf_1 1 rfl rfl)
theorem dX0_itemOf_28 : decode cX0_itemOf 28 = .ok (.ireturn, 1) := dk_172 (dk_at dksX0_itemOf_1 4 rfl rfl)
abbrev cX0_beginPlan : ByteArray := prog_1_method_23_code
def yX0_beginPlan : MethodName := ⟨RX0, "beginPlan", "()V"⟩
def dkwX0_beginPlan_0 : List UInt8 := [42, 3, 181, 0, 178, 42, 3, 181, 0, 181, 42, 42, 180, 0, 100, 181, 0, 184, 177]
abbrev dktX0_beginPlan_0 : List UInt8 := dkwX0_beginPlan_0 ++ []
theorem dksX0_beginPlan_0 : cX0_beginPlan.data.toList.drop 0 = dktX0_beginPlan_0 := by decide +kernel
theorem dX0_beginPlan_0 : decode cX0_beginPlan 0 = .ok (.aload_n 0, 1) := dk_42 (dk_at dksX0_beginPlan_0 0 rfl rfl)
theorem dX0_beginPlan_1 : decode cX0_beginPlan 1 = .ok (.iconst 0, 1) := dk_3 (dk_at dksX0_beginPlan_0 1 rfl rfl)
theorem dX0_beginPlan_2 : decode cX0_beginPlan 2 = .ok (.putfield 178, 3) := dk_181 0 178 (dk_at dksX0_beginPlan_0 2 rfl rfl)
theorem dX0_beginPlan_5 : decode cX0_beginPlan 5 = .ok (.aload_n 0, 1) := dk_42 (dk_at dksX0_beginPlan_0 5 rfl rfl)
theorem dX0_beginPlan_6 : decode cX0_beginPlan 6 = .ok (.iconst 0, 1) := dk_3 (dk_at dksX0_beginPlan_0 6 rfl rfl)
theorem dX0_beginPlan_7 : decode cX0_beginPlan 7 = .ok (.putfield 181, 3) := dk_181 0 181 (dk_at dksX0_beginPlan_0 7 rfl rfl)
theorem dX0_beginPlan_10 : decode cX0_beginPlan 10 = .ok (.aload_n 0, 1) := dk_42 (dk_at dksX0_beginPlan_0 10 rfl rfl)
theorem dX0_beginPlan_11 : decode cX0_beginPlan 11 = .ok (.aload_n 0, 1) := dk_42 (dk_at dksX0_beginPlan_0 11 rfl rfl)
theorem dX0_beginPlan_12 : decode cX0_beginPlan 12 = .ok (.getfield 100, 3) := dk_180 0 100 (dk_at dksX0_beginPlan_0 12 rfl rfl)
theorem dX0_beginPlan_15 : decode cX0_beginPlan 15 = .ok (.putfield 184, 3) := dk_181 0 184 (dk_at dksX0_beginPlan_0 15 rfl rfl)
theorem dX0_beginPlan_18 : decode cX0_beginPlan 18 = .ok (.return_, 1) := dk_177 (dk_at dksX0_beginPlan_0 18 rfl rfl)
abbrev cX0_newName : ByteArray := prog_1_method_24_code
def yX0_newName : MethodName := ⟨RX0, "newName", "()I"⟩
def dkwX0_newName_0 : List UInt8 := [42, 89, 180, 0, 184, 4, 96, 181, 0, 184, 42, 180, 0, 184, 172]
abbrev dktX0_newName_0 : List UInt8 := dkwX0_newName_0 ++ []
theorem dksX0_newName_0 : cX0_newName.data.toList.drop 0 = dktX0_newName_0 := by decide +kernel
theorem dX0_newName_0 : decode cX0_newName 0 = .ok (.aload_n 0, 1) := dk_42 (dk_at dksX0_newName_0 0 rfl rfl)
theorem dX0_newName_1 : decode cX0_newName 1 = .ok (.dup, 1) := dk_89 (dk_at dksX0_newName_0 1 rfl rfl)
theorem dX0_newName_2 : decode cX0_newName 2 = .ok (.getfield 184, 3) := dk_180 0 184 (dk_at dksX0_newName_0 2 rfl rfl)
theorem dX0_newName_5 : decode cX0_newName 5 = .ok (.iconst 1, 1) := dk_4 (dk_at dksX0_newName_0 5 rfl rfl)
theorem dX0_newName_6 : decode cX0_newName 6 = .ok (.iadd, 1) := dk_96 (dk_at dksX0_newName_0 6 rfl rfl)
theorem dX0_newName_7 : decode cX0_newName 7 = .ok (.putfield 184, 3) := dk_181 0 184 (dk_at dksX0_newName_0 7 rfl rfl)
theorem dX0_newName_10 : decode cX0_newName 10 = .ok (.aload_n 0, 1) := dk_42 (dk_at dksX0_newName_0 10 rfl rfl)
theorem dX0_newName_11 : decode cX0_newName 11 = .ok (.getfield 184, 3) := dk_180 0 184 (dk_at dksX0_newName_0 11 rfl rfl)
theorem dX0_newName_14 : decode cX0_newName 14 = .ok (.ireturn, 1) := dk_172 (dk_at dksX0_newName_0 14 rfl rfl)
abbrev cX0_plan : ByteArray := prog_1_method_28_code
def yX0_plan : MethodName := ⟨RX0, "plan", "(II)V"⟩
def dkwX0_plan_0 : List UInt8 := [42, 27, 182, 0, 187, 42, 28, 182, 0, 193, 177]
abbrev dktX0_plan_0 : List UInt8 := dkwX0_plan_0 ++ []
theorem dksX0_plan_0 : cX0_plan.data.toList.drop 0 = dktX0_plan_0 := by decide +kernel
theorem dX0_plan_0 : decode cX0_plan 0 = .ok (.aload_n 0, 1) := dk_42 (dk_at dksX0_plan_0 0 rfl rfl)
theorem dX0_plan_1 : decode cX0_plan 1 = .ok (.iload_n 1, 1) := dk_27 (dk_at dksX0_plan_0 1 rfl rfl)
theorem dX0_plan_2 : decode cX0_plan 2 = .ok (.invokevirtual 187, 3) := dk_182 0 187 (dk_at dksX0_plan_0 2 rfl rfl)
theorem dX0_plan_5 : decode cX0_plan 5 = .ok (.aload_n 0, 1) := dk_42 (dk_at dksX0_plan_0 5 rfl rfl)
theorem dX0_plan_6 : decode cX0_plan 6 = .ok (.iload_n 2, 1) := dk_28 (dk_at dksX0_plan_0 6 rfl rfl)
theorem dX0_plan_7 : decode cX0_plan 7 = .ok (.invokevirtual 193, 3) := dk_182 0 193 (dk_at dksX0_plan_0 7 rfl rfl)
theorem dX0_plan_10 : decode cX0_plan 10 = .ok (.return_, 1) := dk_177 (dk_at dksX0_plan_0 10 rfl rfl)
abbrev cX0_also : ByteArray := prog_1_method_25_code
def yX0_also : MethodName := ⟨RX0, "also", "(I)V"⟩
def dkwX0_also_3 : List UInt8 := [96, 181, 0, 181, 27, 79, 177]
abbrev dktX0_also_3 : List UInt8 := dkwX0_also_3 ++ []
def dkwX0_also_2 : List UInt8 := [3, 126, 61, 132, 3, 1, 167, 255, 227, 28, 153, 0, 20, 42, 180, 0, 31, 42, 89, 180, 0, 181, 90, 4]
abbrev dktX0_also_2 : List UInt8 := dkwX0_also_2 ++ dktX0_also_3
def dkwX0_also_1 : List UInt8 := [62, 29, 42, 180, 0, 181, 162, 0, 27, 28, 42, 180, 0, 31, 29, 46, 27, 159, 0, 7, 4, 167, 0, 4]
abbrev dktX0_also_1 : List UInt8 := dkwX0_also_1 ++ dktX0_also_2
def dkwX0_also_0 : List UInt8 := [4, 61, 42, 180, 0, 178, 154, 0, 7, 3, 167, 0, 14, 42, 180, 0, 34, 42, 180, 0, 178, 4, 100, 46]
abbrev dktX0_also_0 : List UInt8 := dkwX0_also_0 ++ dktX0_also_1
theorem dksX0_also_0 : cX0_also.data.toList.drop 0 = dktX0_also_0 := by decide +kernel
theorem dksX0_also_1 : cX0_also.data.toList.drop 24 = dktX0_also_1 := dk_seg dksX0_also_0 24 rfl rfl
theorem dksX0_also_2 : cX0_also.data.toList.drop 48 = dktX0_also_2 := dk_seg dksX0_also_1 24 rfl rfl
theorem dksX0_also_3 : cX0_also.data.toList.drop 72 = dktX0_also_3 := dk_seg dksX0_also_2 24 rfl rfl
theorem dX0_also_0 : decode cX0_also 0 = .ok (.iconst 1, 1) := dk_4 (dk_at dksX0_also_0 0 rfl rfl)
theorem dX0_also_1 : decode cX0_also 1 = .ok (.istore_n 2, 1) := dk_61 (dk_at dksX0_also_0 1 rfl rfl)
theorem dX0_also_2 : decode cX0_also 2 = .ok (.aload_n 0, 1) := dk_42 (dk_at dksX0_also_0 2 rfl rfl)
theorem dX0_also_3 : decode cX0_also 3 = .ok (.getfield 178, 3) := dk_180 0 178 (dk_at dksX0_also_0 3 rfl rfl)
theorem dX0_also_6 : decode cX0_also 6 = .ok (.ifCond .ne 7, 3) := dk_154 0 7 (dk_at dksX0_also_0 6 rfl rfl)
theorem dX0_also_9 : decode cX0_also 9 = .ok (.iconst 0, 1) := dk_3 (dk_at dksX0_also_0 9 rfl rfl)
theorem dX0_also_10 : decode cX0_also 10 = .ok (.goto 14, 3) := dk_167 0 14 (dk_at dksX0_also_0 10 rfl rfl)
theorem dX0_also_13 : decode cX0_also 13 = .ok (.aload_n 0, 1) := dk_42 (dk_at dksX0_also_0 13 rfl rfl)
theorem dX0_also_14 : decode cX0_also 14 = .ok (.getfield 34, 3) := dk_180 0 34 (dk_at dksX0_also_0 14 rfl rfl)
theorem dX0_also_17 : decode cX0_also 17 = .ok (.aload_n 0, 1) := dk_42 (dk_at dksX0_also_0 17 rfl rfl)
theorem dX0_also_18 : decode cX0_also 18 = .ok (.getfield 178, 3) := dk_180 0 178 (dk_at dksX0_also_0 18 rfl rfl)
theorem dX0_also_21 : decode cX0_also 21 = .ok (.iconst 1, 1) := dk_4 (dk_at dksX0_also_0 21 rfl rfl)
theorem dX0_also_22 : decode cX0_also 22 = .ok (.isub, 1) := dk_100 (dk_at dksX0_also_0 22 rfl rfl)
theorem dX0_also_23 : decode cX0_also 23 = .ok (.iaload, 1) := dk_46 (dk_at dksX0_also_0 23 rfl rfl)
theorem dX0_also_24 : decode cX0_also 24 = .ok (.istore_n 3, 1) := dk_62 (dk_at dksX0_also_1 0 rfl rfl)
theorem dX0_also_25 : decode cX0_also 25 = .ok (.iload_n 3, 1) := dk_29 (dk_at dksX0_also_1 1 rfl rfl)
theorem dX0_also_26 : decode cX0_also 26 = .ok (.aload_n 0, 1) := dk_42 (dk_at dksX0_also_1 2 rfl rfl)
theorem dX0_also_27 : decode cX0_also 27 = .ok (.getfield 181, 3) := dk_180 0 181 (dk_at dksX0_also_1 3 rfl rfl)
theorem dX0_also_30 : decode cX0_also 30 = .ok (.if_icmp .ge 27, 3) := dk_162 0 27 (dk_at dksX0_also_1 6 rfl rfl)
theorem dX0_also_33 : decode cX0_also 33 = .ok (.iload_n 2, 1) := dk_28 (dk_at dksX0_also_1 9 rfl rfl)
theorem dX0_also_34 : decode cX0_also 34 = .ok (.aload_n 0, 1) := dk_42 (dk_at dksX0_also_1 10 rfl rfl)
theorem dX0_also_35 : decode cX0_also 35 = .ok (.getfield 31, 3) := dk_180 0 31 (dk_at dksX0_also_1 11 rfl rfl)
theorem dX0_also_38 : decode cX0_also 38 = .ok (.iload_n 3, 1) := dk_29 (dk_at dksX0_also_1 14 rfl rfl)
theorem dX0_also_39 : decode cX0_also 39 = .ok (.iaload, 1) := dk_46 (dk_at dksX0_also_1 15 rfl rfl)
theorem dX0_also_40 : decode cX0_also 40 = .ok (.iload_n 1, 1) := dk_27 (dk_at dksX0_also_1 16 rfl rfl)
theorem dX0_also_41 : decode cX0_also 41 = .ok (.if_icmp .eq 7, 3) := dk_159 0 7 (dk_at dksX0_also_1 17 rfl rfl)
theorem dX0_also_44 : decode cX0_also 44 = .ok (.iconst 1, 1) := dk_4 (dk_at dksX0_also_1 20 rfl rfl)
theorem dX0_also_45 : decode cX0_also 45 = .ok (.goto 4, 3) := dk_167 0 4 (dk_at dksX0_also_1 21 rfl rfl)
theorem dX0_also_48 : decode cX0_also 48 = .ok (.iconst 0, 1) := dk_3 (dk_at dksX0_also_2 0 rfl rfl)
theorem dX0_also_49 : decode cX0_also 49 = .ok (.iand, 1) := dk_126 (dk_at dksX0_also_2 1 rfl rfl)
theorem dX0_also_50 : decode cX0_also 50 = .ok (.istore_n 2, 1) := dk_61 (dk_at dksX0_also_2 2 rfl rfl)
theorem dX0_also_51 : decode cX0_also 51 = .ok (.iinc 3 1, 3) := dk_132 3 1 (dk_at dksX0_also_2 3 rfl rfl)
theorem dX0_also_54 : decode cX0_also 54 = .ok (.goto (-29), 3) := dk_167 255 227 (dk_at dksX0_also_2 6 rfl rfl)
theorem dX0_also_57 : decode cX0_also 57 = .ok (.iload_n 2, 1) := dk_28 (dk_at dksX0_also_2 9 rfl rfl)
theorem dX0_also_58 : decode cX0_also 58 = .ok (.ifCond .eq 20, 3) := dk_153 0 20 (dk_at dksX0_also_2 10 rfl rfl)
theorem dX0_also_61 : decode cX0_also 61 = .ok (.aload_n 0, 1) := dk_42 (dk_at dksX0_also_2 13 rfl rfl)
theorem dX0_also_62 : decode cX0_also 62 = .ok (.getfield 31, 3) := dk_180 0 31 (dk_at dksX0_also_2 14 rfl rfl)
theorem dX0_also_65 : decode cX0_also 65 = .ok (.aload_n 0, 1) := dk_42 (dk_at dksX0_also_2 17 rfl rfl)
theorem dX0_also_66 : decode cX0_also 66 = .ok (.dup, 1) := dk_89 (dk_at dksX0_also_2 18 rfl rfl)
theorem dX0_also_67 : decode cX0_also 67 = .ok (.getfield 181, 3) := dk_180 0 181 (dk_at dksX0_also_2 19 rfl rfl)
theorem dX0_also_70 : decode cX0_also 70 = .ok (.dup_x1, 1) := dk_90 (dk_at dksX0_also_2 22 rfl rfl)
theorem dX0_also_71 : decode cX0_also 71 = .ok (.iconst 1, 1) := dk_4 (dk_at dksX0_also_2 23 rfl rfl)
theorem dX0_also_72 : decode cX0_also 72 = .ok (.iadd, 1) := dk_96 (dk_at dksX0_also_3 0 rfl rfl)
theorem dX0_also_73 : decode cX0_also 73 = .ok (.putfield 181, 3) := dk_181 0 181 (dk_at dksX0_also_3 1 rfl rfl)
theorem dX0_also_76 : decode cX0_also 76 = .ok (.iload_n 1, 1) := dk_27 (dk_at dksX0_also_3 4 rfl rfl)
theorem dX0_also_77 : decode cX0_also 77 = .ok (.iastore, 1) := dk_79 (dk_at dksX0_also_3 5 rfl rfl)
theorem dX0_also_78 : decode cX0_also 78 = .ok (.return_, 1) := dk_177 (dk_at dksX0_also_3 6 rfl rfl)
abbrev cX0_plan_2 : ByteArray := prog_1_method_27_code
def yX0_plan_2 : MethodName := ⟨RX0, "plan", "(I)V"⟩
def dkwX0_plan_2_0 : List UInt8 := [42, 27, 182, 0, 187, 42, 182, 0, 190, 177]
abbrev dktX0_plan_2_0 : List UInt8 := dkwX0_plan_2_0 ++ []
theorem dksX0_plan_2_0 : cX0_plan_2.data.toList.drop 0 = dktX0_plan_2_0 := by decide +kernel
theorem dX0_plan_2_0 : decode cX0_plan_2 0 = .ok (.aload_n 0, 1) := dk_42 (dk_at dksX0_plan_2_0 0 rfl rfl)
theorem dX0_plan_2_1 : decode cX0_plan_2 1 = .ok (.iload_n 1, 1) := dk_27 (dk_at dksX0_plan_2_0 1 rfl rfl)
theorem dX0_plan_2_2 : decode cX0_plan_2 2 = .ok (.invokevirtual 187, 3) := dk_182 0 187 (dk_at dksX0_plan_2_0 2 rfl rfl)
theorem dX0_plan_2_5 : decode cX0_plan_2 5 = .ok (.aload_n 0, 1) := dk_42 (dk_at dksX0_plan_2_0 5 rfl rfl)
theorem dX0_plan_2_6 : decode cX0_plan_2 6 = .ok (.invokevirtual 190, 3) := dk_182 0 190 (dk_at dksX0_plan_2_0 6 rfl rfl)
theorem dX0_plan_2_9 : decode cX0_plan_2 9 = .ok (.return_, 1) := dk_177 (dk_at dksX0_plan_2_0 9 rfl rfl)
abbrev cX0_endRow : ByteArray := prog_1_method_26_code
def yX0_endRow : MethodName := ⟨RX0, "endRow", "()V"⟩
def dkwX0_endRow_0 : List UInt8 := [42, 180, 0, 34, 42, 89, 180, 0, 178, 90, 4, 96, 181, 0, 178, 42, 180, 0, 181, 79, 177]
abbrev dktX0_endRow_0 : List UInt8 := dkwX0_endRow_0 ++ []
theorem dksX0_endRow_0 : cX0_endRow.data.toList.drop 0 = dktX0_endRow_0 := by decide +kernel
theorem dX0_endRow_0 : decode cX0_endRow 0 = .ok (.aload_n 0, 1) := dk_42 (dk_at dksX0_endRow_0 0 rfl rfl)
theorem dX0_endRow_1 : decode cX0_endRow 1 = .ok (.getfield 34, 3) := dk_180 0 34 (dk_at dksX0_endRow_0 1 rfl rfl)
theorem dX0_endRow_4 : decode cX0_endRow 4 = .ok (.aload_n 0, 1) := dk_42 (dk_at dksX0_endRow_0 4 rfl rfl)
theorem dX0_endRow_5 : decode cX0_endRow 5 = .ok (.dup, 1) := dk_89 (dk_at dksX0_endRow_0 5 rfl rfl)
theorem dX0_endRow_6 : decode cX0_endRow 6 = .ok (.getfield 178, 3) := dk_180 0 178 (dk_at dksX0_endRow_0 6 rfl rfl)
theorem dX0_endRow_9 : decode cX0_endRow 9 = .ok (.dup_x1, 1) := dk_90 (dk_at dksX0_endRow_0 9 rfl rfl)
theorem dX0_endRow_10 : decode cX0_endRow 10 = .ok (.iconst 1, 1) := dk_4 (dk_at dksX0_endRow_0 10 rfl rfl)
theorem dX0_endRow_11 : decode cX0_endRow 11 = .ok (.iadd, 1) := dk_96 (dk_at dksX0_endRow_0 11 rfl rfl)
theorem dX0_endRow_12 : decode cX0_endRow 12 = .ok (.putfield 178, 3) := dk_181 0 178 (dk_at dksX0_endRow_0 12 rfl rfl)
theorem dX0_endRow_15 : decode cX0_endRow 15 = .ok (.aload_n 0, 1) := dk_42 (dk_at dksX0_endRow_0 15 rfl rfl)
theorem dX0_endRow_16 : decode cX0_endRow 16 = .ok (.getfield 181, 3) := dk_180 0 181 (dk_at dksX0_endRow_0 16 rfl rfl)
theorem dX0_endRow_19 : decode cX0_endRow 19 = .ok (.iastore, 1) := dk_79 (dk_at dksX0_endRow_0 19 rfl rfl)
theorem dX0_endRow_20 : decode cX0_endRow 20 = .ok (.return_, 1) := dk_177 (dk_at dksX0_endRow_0 20 rfl rfl)
abbrev cX0_plan_3 : ByteArray := prog_1_method_29_code
def yX0_plan_3 : MethodName := ⟨RX0, "plan", "(III)V"⟩
def dkwX0_plan_3_0 : List UInt8 := [42, 27, 182, 0, 187, 42, 28, 29, 182, 0, 196, 177]
abbrev dktX0_plan_3_0 : List UInt8 := dkwX0_plan_3_0 ++ []
theorem dksX0_plan_3_0 : cX0_plan_3.data.toList.drop 0 = dktX0_plan_3_0 := by decide +kernel
theorem dX0_plan_3_0 : decode cX0_plan_3 0 = .ok (.aload_n 0, 1) := dk_42 (dk_at dksX0_plan_3_0 0 rfl rfl)
theorem dX0_plan_3_1 : decode cX0_plan_3 1 = .ok (.iload_n 1, 1) := dk_27 (dk_at dksX0_plan_3_0 1 rfl rfl)
theorem dX0_plan_3_2 : decode cX0_plan_3 2 = .ok (.invokevirtual 187, 3) := dk_182 0 187 (dk_at dksX0_plan_3_0 2 rfl rfl)
theorem dX0_plan_3_5 : decode cX0_plan_3 5 = .ok (.aload_n 0, 1) := dk_42 (dk_at dksX0_plan_3_0 5 rfl rfl)
theorem dX0_plan_3_6 : decode cX0_plan_3 6 = .ok (.iload_n 2, 1) := dk_28 (dk_at dksX0_plan_3_0 6 rfl rfl)
theorem dX0_plan_3_7 : decode cX0_plan_3 7 = .ok (.iload_n 3, 1) := dk_29 (dk_at dksX0_plan_3_0 7 rfl rfl)
theorem dX0_plan_3_8 : decode cX0_plan_3 8 = .ok (.invokevirtual 196, 3) := dk_182 0 196 (dk_at dksX0_plan_3_0 8 rfl rfl)
theorem dX0_plan_3_11 : decode cX0_plan_3 11 = .ok (.return_, 1) := dk_177 (dk_at dksX0_plan_3_0 11 rfl rfl)
abbrev cX0_laid : ByteArray := prog_1_method_30_code
def yX0_laid : MethodName := ⟨RX0, "laid", "(LClauseCourt$Rule;)I"⟩
def dkwX0_laid_8 : List UInt8 := [181, 0, 199, 42, 180, 0, 199, 4, 100, 172]
abbrev dktX0_laid_8 : List UInt8 := dkwX0_laid_8 ++ []
def dkwX0_laid_7 : List UInt8 := [79, 132, 3, 1, 167, 255, 218, 42, 180, 0, 45, 42, 180, 0, 199, 43, 83, 42, 89, 180, 0, 199, 4, 96]
abbrev dktX0_laid_7 : List UInt8 := dkwX0_laid_7 ++ dktX0_laid_8
def dkwX0_laid_6 : List UInt8 := [180, 0, 202, 4, 96, 181, 0, 202, 42, 180, 0, 40, 42, 180, 0, 202, 28, 42, 180, 0, 34, 29, 46, 96]
abbrev dktX0_laid_6 : List UInt8 := dkwX0_laid_6 ++ dktX0_laid_7
def dkwX0_laid_5 : List UInt8 := [180, 0, 31, 29, 46, 79, 132, 3, 1, 167, 255, 231, 3, 62, 29, 42, 180, 0, 178, 162, 0, 36, 42, 89]
abbrev dktX0_laid_5 : List UInt8 := dkwX0_laid_5 ++ dktX0_laid_6
def dkwX0_laid_4 : List UInt8 := [180, 0, 202, 46, 61, 3, 62, 29, 42, 180, 0, 181, 162, 0, 23, 42, 180, 0, 37, 28, 29, 96, 42]
abbrev dktX0_laid_4 : List UInt8 := dkwX0_laid_4 ++ dktX0_laid_5
def dkwX0_laid_3 : List UInt8 := [180, 0, 178, 181, 0, 208, 42, 42, 180, 0, 184, 42, 180, 0, 100, 100, 182, 0, 127, 42, 180, 0, 40, 42]
abbrev dktX0_laid_3 : List UInt8 := dkwX0_laid_3 ++ dktX0_laid_4
def dkwX0_laid_2 : List UInt8 := [17, 9, 196, 164, 0, 11, 42, 17, 252, 21, 182, 0, 124, 172, 43, 42, 180, 0, 202, 181, 0, 205, 43, 42]
abbrev dktX0_laid_2 : List UInt8 := dkwX0_laid_2 ++ dktX0_laid_3
def dkwX0_laid_1 : List UInt8 := [180, 0, 178, 96, 17, 1, 244, 163, 0, 23, 42, 180, 0, 40, 42, 180, 0, 202, 46, 42, 180, 0, 181, 96]
abbrev dktX0_laid_1 : List UInt8 := dkwX0_laid_1 ++ dktX0_laid_2
def dkwX0_laid_0 : List UInt8 := [42, 180, 0, 199, 16, 60, 159, 0, 48, 42, 180, 0, 184, 17, 1, 44, 163, 0, 38, 42, 180, 0, 202, 42]
abbrev dktX0_laid_0 : List UInt8 := dkwX0_laid_0 ++ dktX0_laid_1
theorem dksX0_laid_0 : cX0_laid.data.toList.drop 0 = dktX0_laid_0 := by decide +kernel
theorem dksX0_laid_1 : cX0_laid.data.toList.drop 24 = dktX0_laid_1 := dk_seg dksX0_laid_0 24 rfl rfl
theorem dksX0_laid_2 : cX0_laid.data.toList.drop 48 = dktX0_laid_2 := dk_seg dksX0_laid_1 24 rfl rfl
theorem dksX0_laid_3 : cX0_laid.data.toList.drop 72 = dktX0_laid_3 := dk_seg dksX0_laid_2 24 rfl rfl
theorem dksX0_laid_4 : cX0_laid.data.toList.drop 96 = dktX0_laid_4 := dk_seg dksX0_laid_3 24 rfl rfl
theorem dksX0_laid_5 : cX0_laid.data.toList.drop 119 = dktX0_laid_5 := dk_seg dksX0_laid_4 23 rfl rfl
theorem dksX0_laid_6 : cX0_laid.data.toList.drop 143 = dktX0_laid_6 := dk_seg dksX0_laid_5 24 rfl rfl
theorem dksX0_laid_7 : cX0_laid.data.toList.drop 167 = dktX0_laid_7 := dk_seg dksX0_laid_6 24 rfl rfl
theorem dksX0_laid_8 : cX0_laid.data.toList.drop 191 = dktX0_laid_8 := dk_seg dksX0_laid_7 24 rfl rfl
theorem dX0_laid_0 : decode cX0_laid 0 = .ok (.aload_n 0, 1) := dk_42 (dk_at dksX0_laid_0 0 rfl rfl)
theorem dX0_laid_1 : decode cX0_laid 1 = .ok (.getfield 199, 3) := dk_180 0 199 (dk_at dksX0_laid_0 1 rfl rfl)
theorem dX0_laid_4 : decode cX0_laid 4 = .ok (.bipush 60, 2) := dk_16 60 (dk_at dksX0_laid_0 4 rfl rfl)
theorem dX0_laid_6 : decode cX0_laid 6 = .ok (.if_icmp .eq 48, 3) := dk_159 0 48 (dk_at dksX0_laid_0 6 rfl rfl)
theorem dX0_laid_9 : decode cX0_laid 9 = .ok (.aload_n 0, 1) := dk_42 (dk_at dksX0_laid_0 9 rfl rfl)
theorem dX0_laid_10 : decode cX0_laid 10 = .ok (.getfield 184, 3) := dk_180 0 184 (dk_at dksX0_laid_0 10 rfl rfl)
theorem dX0_laid_13 : decode cX0_laid 13 = .ok (.sipush 300, 3) := dk_17 1 44 (dk_at dksX0_laid_0 13 rfl rfl)
theorem dX0_laid_16 : decode cX0_laid 16 = .ok (.if_icmp .gt 38, 3) := dk_163 0 38 (dk_at dksX0_laid_0 16 rfl rfl)
theorem dX0_laid_19 : decode cX0_laid 19 = .ok (.aload_n 0, 1) := dk_42 (dk_at dksX0_laid_0 19 rfl rfl)
theorem dX0_laid_20 : decode cX0_laid 20 = .ok (.getfield 202, 3) := dk_180 0 202 (dk_at dksX0_laid_0 20 rfl rfl)
theorem dX0_laid_23 : decode cX0_laid 23 = .ok (.aload_n 0, 1) := dk_42 (dk_at dksX0_laid_0 23 rfl rfl)
theorem dX0_laid_24 : decode cX0_laid 24 = .ok (.getfield 178, 3) := dk_180 0 178 (dk_at dksX0_laid_1 0 rfl rfl)
theorem dX0_laid_27 : decode cX0_laid 27 = .ok (.iadd, 1) := dk_96 (dk_at dksX0_laid_1 3 rfl rfl)
theorem dX0_laid_28 : decode cX0_laid 28 = .ok (.sipush 500, 3) := dk_17 1 244 (dk_at dksX0_laid_1 4 rfl rfl)
theorem dX0_laid_31 : decode cX0_laid 31 = .ok (.if_icmp .gt 23, 3) := dk_163 0 23 (dk_at dksX0_laid_1 7 rfl rfl)
theorem dX0_laid_34 : decode cX0_laid 34 = .ok (.aload_n 0, 1) := dk_42 (dk_at dksX0_laid_1 10 rfl rfl)
theorem dX0_laid_35 : decode cX0_laid 35 = .ok (.getfield 40, 3) := dk_180 0 40 (dk_at dksX0_laid_1 11 rfl rfl)
theorem dX0_laid_38 : decode cX0_laid 38 = .ok (.aload_n 0, 1) := dk_42 (dk_at dksX0_laid_1 14 rfl rfl)
theorem dX0_laid_39 : decode cX0_laid 39 = .ok (.getfield 202, 3) := dk_180 0 202 (dk_at dksX0_laid_1 15 rfl rfl)
theorem dX0_laid_42 : decode cX0_laid 42 = .ok (.iaload, 1) := dk_46 (dk_at dksX0_laid_1 18 rfl rfl)
theorem dX0_laid_43 : decode cX0_laid 43 = .ok (.aload_n 0, 1) := dk_42 (dk_at dksX0_laid_1 19 rfl rfl)
theorem dX0_laid_44 : decode cX0_laid 44 = .ok (.getfield 181, 3) := dk_180 0 181 (dk_at dksX0_laid_1 20 rfl rfl)
theorem dX0_laid_47 : decode cX0_laid 47 = .ok (.iadd, 1) := dk_96 (dk_at dksX0_laid_1 23 rfl rfl)
theorem dX0_laid_48 : decode cX0_laid 48 = .ok (.sipush 2500, 3) := dk_17 9 196 (dk_at dksX0_laid_2 0 rfl rfl)
theorem dX0_laid_51 : decode cX0_laid 51 = .ok (.if_icmp .le 11, 3) := dk_164 0 11 (dk_at dksX0_laid_2 3 rfl rfl)
theorem dX0_laid_54 : decode cX0_laid 54 = .ok (.aload_n 0, 1) := dk_42 (dk_at dksX0_laid_2 6 rfl rfl)
theorem dX0_laid_55 : decode cX0_laid 55 = .ok (.sipush (-1003), 3) := dk_17 252 21 (dk_at dksX0_laid_2 7 rfl rfl)
theorem dX0_laid_58 : decode cX0_laid 58 = .ok (.invokevirtual 124, 3) := dk_182 0 124 (dk_at dksX0_laid_2 10 rfl rfl)
theorem dX0_laid_61 : decode cX0_laid 61 = .ok (.ireturn, 1) := dk_172 (dk_at dksX0_laid_2 13 rfl rfl)
theorem dX0_laid_62 : decode cX0_laid 62 = .ok (.aload_n 1, 1) := dk_43 (dk_at dksX0_laid_2 14 rfl rfl)
theorem dX0_laid_63 : decode cX0_laid 63 = .ok (.aload_n 0, 1) := dk_42 (dk_at dksX0_laid_2 15 rfl rfl)
theorem dX0_laid_64 : decode cX0_laid 64 = .ok (.getfield 202, 3) := dk_180 0 202 (dk_at dksX0_laid_2 16 rfl rfl)
theorem dX0_laid_67 : decode cX0_laid 67 = .ok (.putfield 205, 3) := dk_181 0 205 (dk_at dksX0_laid_2 19 rfl rfl)
theorem dX0_laid_70 : decode cX0_laid 70 = .ok (.aload_n 1, 1) := dk_43 (dk_at dksX0_laid_2 22 rfl rfl)
theorem dX0_laid_71 : decode cX0_laid 71 = .ok (.aload_n 0, 1) := dk_42 (dk_at dksX0_laid_2 23 rfl rfl)
theorem dX0_laid_72 : decode cX0_laid 72 = .ok (.getfield 178, 3) := dk_180 0 178 (dk_at dksX0_laid_3 0 rfl rfl)
theorem dX0_laid_75 : decode cX0_laid 75 = .ok (.putfield 208, 3) := dk_181 0 208 (dk_at dksX0_laid_3 3 rfl rfl)
theorem dX0_laid_78 : decode cX0_laid 78 = .ok (.aload_n 0, 1) := dk_42 (dk_at dksX0_laid_3 6 rfl rfl)
theorem dX0_laid_79 : decode cX0_laid 79 = .ok (.aload_n 0, 1) := dk_42 (dk_at dksX0_laid_3 7 rfl rfl)
theorem dX0_laid_80 : decode cX0_laid 80 = .ok (.getfield 184, 3) := dk_180 0 184 (dk_at dksX0_laid_3 8 rfl rfl)
theorem dX0_laid_83 : decode cX0_laid 83 = .ok (.aload_n 0, 1) := dk_42 (dk_at dksX0_laid_3 11 rfl rfl)
theorem dX0_laid_84 : decode cX0_laid 84 = .ok (.getfield 100, 3) := dk_180 0 100 (dk_at dksX0_laid_3 12 rfl rfl)
theorem dX0_laid_87 : decode cX0_laid 87 = .ok (.isub, 1) := dk_100 (dk_at dksX0_laid_3 15 rfl rfl)
theorem dX0_laid_88 : decode cX0_laid 88 = .ok (.invokevirtual 127, 3) := dk_182 0 127 (dk_at dksX0_laid_3 16 rfl rfl)
theorem dX0_laid_91 : decode cX0_laid 91 = .ok (.aload_n 0, 1) := dk_42 (dk_at dksX0_laid_3 19 rfl rfl)
theorem dX0_laid_92 : decode cX0_laid 92 = .ok (.getfield 40, 3) := dk_180 0 40 (dk_at dksX0_laid_3 20 rfl rfl)
theorem dX0_laid_95 : decode cX0_laid 95 = .ok (.aload_n 0, 1) := dk_42 (dk_at dksX0_laid_3 23 rfl rfl)
theorem dX0_laid_96 : decode cX0_laid 96 = .ok (.getfield 202, 3) := dk_180 0 202 (dk_at dksX0_laid_4 0 rfl rfl)
theorem dX0_laid_99 : decode cX0_laid 99 = .ok (.iaload, 1) := dk_46 (dk_at dksX0_laid_4 3 rfl rfl)
theorem dX0_laid_100 : decode cX0_laid 100 = .ok (.istore_n 2, 1) := dk_61 (dk_at dksX0_laid_4 4 rfl rfl)
theorem dX0_laid_101 : decode cX0_laid 101 = .ok (.iconst 0, 1) := dk_3 (dk_at dksX0_laid_4 5 rfl rfl)
theorem dX0_laid_102 : decode cX0_laid 102 = .ok (.istore_n 3, 1) := dk_62 (dk_at dksX0_laid_4 6 rfl rfl)
theorem dX0_laid_103 : decode cX0_laid 103 = .ok (.iload_n 3, 1) := dk_29 (dk_at dksX0_laid_4 7 rfl rfl)
theorem dX0_laid_104 : decode cX0_laid 104 = .ok (.aload_n 0, 1) := dk_42 (dk_at dksX0_laid_4 8 rfl rfl)
theorem dX0_laid_105 : decode cX0_laid 105 = .ok (.getfield 181, 3) := dk_180 0 181 (dk_at dksX0_laid_4 9 rfl rfl)
theorem dX0_laid_108 : decode cX0_laid 108 = .ok (.if_icmp .ge 23, 3) := dk_162 0 23 (dk_at dksX0_laid_4 12 rfl rfl)
theorem dX0_laid_111 : decode cX0_laid 111 = .ok (.aload_n 0, 1) := dk_42 (dk_at dksX0_laid_4 15 rfl rfl)
theorem dX0_laid_112 : decode cX0_laid 112 = .ok (.getfield 37, 3) := dk_180 0 37 (dk_at dksX0_laid_4 16 rfl rfl)
theorem dX0_laid_115 : decode cX0_laid 115 = .ok (.iload_n 2, 1) := dk_28 (dk_at dksX0_laid_4 19 rfl rfl)
theorem dX0_laid_116 : decode cX0_laid 116 = .ok (.iload_n 3, 1) := dk_29 (dk_at dksX0_laid_4 20 rfl rfl)
theorem dX0_laid_117 : decode cX0_laid 117 = .ok (.iadd, 1) := dk_96 (dk_at dksX0_laid_4 21 rfl rfl)
theorem dX0_laid_118 : decode cX0_laid 118 = .ok (.aload_n 0, 1) := dk_42 (dk_at dksX0_laid_4 22 rfl rfl)
theorem dX0_laid_119 : decode cX0_laid 119 = .ok (.getfield 31, 3) := dk_180 0 31 (dk_at dksX0_laid_5 0 rfl rfl)
theorem dX0_laid_122 : decode cX0_laid 122 = .ok (.iload_n 3, 1) := dk_29 (dk_at dksX0_laid_5 3 rfl rfl)
theorem dX0_laid_123 : decode cX0_laid 123 = .ok (.iaload, 1) := dk_46 (dk_at dksX0_laid_5 4 rfl rfl)
theorem dX0_laid_124 : decode cX0_laid 124 = .ok (.iastore, 1) := dk_79 (dk_at dksX0_laid_5 5 rfl rfl)
theorem dX0_laid_125 : decode cX0_laid 125 = .ok (.iinc 3 1, 3) := dk_132 3 1 (dk_at dksX0_laid_5 6 rfl rfl)
theorem dX0_laid_128 : decode cX0_laid 128 = .ok (.goto (-25), 3) := dk_167 255 231 (dk_at dksX0_laid_5 9 rfl rfl)
theorem dX0_laid_131 : decode cX0_laid 131 = .ok (.iconst 0, 1) := dk_3 (dk_at dksX0_laid_5 12 rfl rfl)
theorem dX0_laid_132 : decode cX0_laid 132 = .ok (.istore_n 3, 1) := dk_62 (dk_at dksX0_laid_5 13 rfl rfl)
theorem dX0_laid_133 : decode cX0_laid 133 = .ok (.iload_n 3, 1) := dk_29 (dk_at dksX0_laid_5 14 rfl rfl)
theorem dX0_laid_134 : decode cX0_laid 134 = .ok (.aload_n 0, 1) := dk_42 (dk_at dksX0_laid_5 15 rfl rfl)
theorem dX0_laid_135 : decode cX0_laid 135 = .ok (.getfield 178, 3) := dk_180 0 178 (dk_at dksX0_laid_5 16 rfl rfl)
theorem dX0_laid_138 : decode cX0_laid 138 = .ok (.if_icmp .ge 36, 3) := dk_162 0 36 (dk_at dksX0_laid_5 19 rfl rfl)
theorem dX0_laid_141 : decode cX0_laid 141 = .ok (.aload_n 0, 1) := dk_42 (dk_at dksX0_laid_5 22 rfl rfl)
theorem dX0_laid_142 : decode cX0_laid 142 = .ok (.dup, 1) := dk_89 (dk_at dksX0_laid_5 23 rfl rfl)
theorem dX0_laid_143 : decode cX0_laid 143 = .ok (.getfield 202, 3) := dk_180 0 202 (dk_at dksX0_laid_6 0 rfl rfl)
theorem dX0_laid_146 : decode cX0_laid 146 = .ok (.iconst 1, 1) := dk_4 (dk_at dksX0_laid_6 3 rfl rfl)
theorem dX0_laid_147 : decode cX0_laid 147 = .ok (.iadd, 1) := dk_96 (dk_at dksX0_laid_6 4 rfl rfl)
theorem dX0_laid_148 : decode cX0_laid 148 = .ok (.putfield 202, 3) := dk_181 0 202 (dk_at dksX0_laid_6 5 rfl rfl)
theorem dX0_laid_151 : decode cX0_laid 151 = .ok (.aload_n 0, 1) := dk_42 (dk_at dksX0_laid_6 8 rfl rfl)
theorem dX0_laid_152 : decode cX0_laid 152 = .ok (.getfield 40, 3) := dk_180 0 40 (dk_at dksX0_laid_6 9 rfl rfl)
theorem dX0_laid_155 : decode cX0_laid 155 = .ok (.aload_n 0, 1) := dk_42 (dk_at dksX0_laid_6 12 rfl rfl)
theorem dX0_laid_156 : decode cX0_laid 156 = .ok (.getfield 202, 3) := dk_180 0 202 (dk_at dksX0_laid_6 13 rfl rfl)
theorem dX0_laid_159 : decode cX0_laid 159 = .ok (.iload_n 2, 1) := dk_28 (dk_at dksX0_laid_6 16 rfl rfl)
theorem dX0_laid_160 : decode cX0_laid 160 = .ok (.aload_n 0, 1) := dk_42 (dk_at dksX0_laid_6 17 rfl rfl)
theorem dX0_laid_161 : decode cX0_laid 161 = .ok (.getfield 34, 3) := dk_180 0 34 (dk_at dksX0_laid_6 18 rfl rfl)
theorem dX0_laid_164 : decode cX0_laid 164 = .ok (.iload_n 3, 1) := dk_29 (dk_at dksX0_laid_6 21 rfl rfl)
theorem dX0_laid_165 : decode cX0_laid 165 = .ok (.iaload, 1) := dk_46 (dk_at dksX0_laid_6 22 rfl rfl)
theorem dX0_laid_166 : decode cX0_laid 166 = .ok (.iadd, 1) := dk_96 (dk_at dksX0_laid_6 23 rfl rfl)
theorem dX0_laid_167 : decode cX0_laid 167 = .ok (.iastore, 1) := dk_79 (dk_at dksX0_laid_7 0 rfl rfl)
theorem dX0_laid_168 : decode cX0_laid 168 = .ok (.iinc 3 1, 3) := dk_132 3 1 (dk_at dksX0_laid_7 1 rfl rfl)
theorem dX0_laid_171 : decode cX0_laid 171 = .ok (.goto (-38), 3) := dk_167 255 218 (dk_at dksX0_laid_7 4 rfl rfl)
theorem dX0_laid_174 : decode cX0_laid 174 = .ok (.aload_n 0, 1) := dk_42 (dk_at dksX0_laid_7 7 rfl rfl)
theorem dX0_laid_175 : decode cX0_laid 175 = .ok (.getfield 45, 3) := dk_180 0 45 (dk_at dksX0_laid_7 8 rfl rfl)
theorem dX0_laid_178 : decode cX0_laid 178 = .ok (.aload_n 0, 1) := dk_42 (dk_at dksX0_laid_7 11 rfl rfl)
theorem dX0_laid_179 : decode cX0_laid 179 = .ok (.getfield 199, 3) := dk_180 0 199 (dk_at dksX0_laid_7 12 rfl rfl)
theorem dX0_laid_182 : decode cX0_laid 182 = .ok (.aload_n 1, 1) := dk_43 (dk_at dksX0_laid_7 15 rfl rfl)
theorem dX0_laid_183 : decode cX0_laid 183 = .ok (.aastore, 1) := dk_83 (dk_at dksX0_laid_7 16 rfl rfl)
theorem dX0_laid_184 : decode cX0_laid 184 = .ok (.aload_n 0, 1) := dk_42 (dk_at dksX0_laid_7 17 rfl rfl)
theorem dX0_laid_185 : decode cX0_laid 185 = .ok (.dup, 1) := dk_89 (dk_at dksX0_laid_7 18 rfl rfl)
theorem dX0_laid_186 : decode cX0_laid 186 = .ok (.getfield 199, 3) := dk_180 0 199 (dk_at dksX0_laid_7 19 rfl rfl)
theorem dX0_laid_189 : decode cX0_laid 189 = .ok (.iconst 1, 1) := dk_4 (dk_at dksX0_laid_7 22 rfl rfl)
theorem dX0_laid_190 : decode cX0_laid 190 = .ok (.iadd, 1) := dk_96 (dk_at dksX0_laid_7 23 rfl rfl)
theorem dX0_laid_191 : decode cX0_laid 191 = .ok (.putfield 199, 3) := dk_181 0 199 (dk_at dksX0_laid_8 0 rfl rfl)
theorem dX0_laid_194 : decode cX0_laid 194 = .ok (.aload_n 0, 1) := dk_42 (dk_at dksX0_laid_8 3 rfl rfl)
theorem dX0_laid_195 : decode cX0_laid 195 = .ok (.getfield 199, 3) := dk_180 0 199 (dk_at dksX0_laid_8 4 rfl rfl)
theorem dX0_laid_198 : decode cX0_laid 198 = .ok (.iconst 1, 1) := dk_4 (dk_at dksX0_laid_8 7 rfl rfl)
theorem dX0_laid_199 : decode cX0_laid 199 = .ok (.isub, 1) := dk_100 (dk_at dksX0_laid_8 8 rfl rfl)
theorem dX0_laid_200 : decode cX0_laid 200 = .ok (.ireturn, 1) := dk_172 (dk_at dksX0_laid_8 9 rfl rfl)
abbrev cX0_atMost : ByteArray := prog_1_method_36_code
def yX0_atMost : MethodName := ⟨RX0, "atMost", "(II)I"⟩
def dkwX0_atMost_0 : List UInt8 := [42, 4, 27, 28, 3, 182, 0, 254, 172]
abbrev dktX0_atMost_0 : List UInt8 := dkwX0_atMost_0 ++ []
theorem dksX0_atMost_0 : cX0_atMost.data.toList.drop 0 = dktX0_atMost_0 := by decide +kernel
theorem dX0_atMost_0 : decode cX0_atMost 0 = .ok (.aload_n 0, 1) := dk_42 (dk_at dksX0_atMost_0 0 rfl rfl)
theorem dX0_atMost_1 : decode cX0_atMost 1 = .ok (.iconst 1, 1) := dk_4 (dk_at dksX0_atMost_0 1 rfl rfl)
theorem dX0_atMost_2 : decode cX0_atMost 2 = .ok (.iload_n 1, 1) := dk_27 (dk_at dksX0_atMost_0 2 rfl rfl)
theorem dX0_atMost_3 : decode cX0_atMost 3 = .ok (.iload_n 2, 1) := dk_28 (dk_at dksX0_atMost_0 3 rfl rfl)
theorem dX0_atMost_4 : decode cX0_atMost 4 = .ok (.iconst 0, 1) := dk_3 (dk_at dksX0_atMost_0 4 rfl rfl)
theorem dX0_atMost_5 : decode cX0_atMost 5 = .ok (.invokevirtual 254, 3) := dk_182 0 254 (dk_at dksX0_atMost_0 5 rfl rfl)
theorem dX0_atMost_8 : decode cX0_atMost 8 = .ok (.ireturn, 1) := dk_172 (dk_at dksX0_atMost_0 8 rfl rfl)
abbrev cX0_group : ByteArray := prog_1_method_37_code
def yX0_group : MethodName := ⟨RX0, "group", "(II)I"⟩
def dkwX0_group_0 : List UInt8 := [42, 5, 27, 28, 3, 182, 0, 254, 172]
abbrev dktX0_group_0 : List UInt8 := dkwX0_group_0 ++ []
theorem dksX0_group_0 : cX0_group.data.toList.drop 0 = dktX0_group_0 := by decide +kernel
theorem dX0_group_0 : decode cX0_group 0 = .ok (.aload_n 0, 1) := dk_42 (dk_at dksX0_group_0 0 rfl rfl)
theorem dX0_group_1 : decode cX0_group 1 = .ok (.iconst 2, 1) := dk_5 (dk_at dksX0_group_0 1 rfl rfl)
theorem dX0_group_2 : decode cX0_group 2 = .ok (.iload_n 1, 1) := dk_27 (dk_at dksX0_group_0 2 rfl rfl)
theorem dX0_group_3 : decode cX0_group 3 = .ok (.iload_n 2, 1) := dk_28 (dk_at dksX0_group_0 3 rfl rfl)
theorem dX0_group_4 : decode cX0_group 4 = .ok (.iconst 0, 1) := dk_3 (dk_at dksX0_group_0 4 rfl rfl)
theorem dX0_group_5 : decode cX0_group 5 = .ok (.invokevirtual 254, 3) := dk_182 0 254 (dk_at dksX0_group_0 5 rfl rfl)
theorem dX0_group_8 : decode cX0_group 8 = .ok (.ireturn, 1) := dk_172 (dk_at dksX0_group_0 8 rfl rfl)
abbrev cX0_parity : ByteArray := prog_1_method_38_code
def yX0_parity : MethodName := ⟨RX0, "parity", "(IZ)I"⟩
def dkwX0_parity_0 : List UInt8 := [42, 6, 27, 3, 28, 182, 0, 254, 172]
abbrev dktX0_parity_0 : List UInt8 := dkwX0_parity_0 ++ []
theorem dksX0_parity_0 : cX0_parity.data.toList.drop 0 = dktX0_parity_0 := by decide +kernel
theorem dX0_parity_0 : decode cX0_parity 0 = .ok (.aload_n 0, 1) := dk_42 (dk_at dksX0_parity_0 0 rfl rfl)
theorem dX0_parity_1 : decode cX0_parity 1 = .ok (.iconst 3, 1) := dk_6 (dk_at dksX0_parity_0 1 rfl rfl)
theorem dX0_parity_2 : decode cX0_parity 2 = .ok (.iload_n 1, 1) := dk_27 (dk_at dksX0_parity_0 2 rfl rfl)
theorem dX0_parity_3 : decode cX0_parity 3 = .ok (.iconst 0, 1) := dk_3 (dk_at dksX0_parity_0 3 rfl rfl)
theorem dX0_parity_4 : decode cX0_parity 4 = .ok (.iload_n 2, 1) := dk_28 (dk_at dksX0_parity_0 4 rfl rfl)
theorem dX0_parity_5 : decode cX0_parity 5 = .ok (.invokevirtual 254, 3) := dk_182 0 254 (dk_at dksX0_parity_0 5 rfl rfl)
theorem dX0_parity_8 : decode cX0_parity 8 = .ok (.ireturn, 1) := dk_172 (dk_at dksX0_parity_0 8 rfl rfl)
abbrev cX0_told : ByteArray := prog_1_method_39_code
def yX0_told : MethodName := ⟨RX0, "told", "()I"⟩
def dkwX0_told_6 : List UInt8 := [182, 0, 124, 172]
abbrev dktX0_told_6 : List UInt8 := dkwX0_told_6 ++ []
def dkwX0_told_5 : List UInt8 := [180, 1, 23, 100, 182, 0, 124, 172, 78, 42, 17, 252, 13, 182, 0, 124, 172, 78, 42, 17, 252, 12]
abbrev dktX0_told_5 : List UInt8 := dkwX0_told_5 ++ dktX0_told_6
def dkwX0_told_4 : List UInt8 := [58, 5, 42, 182, 0, 244, 25, 5, 182, 0, 247, 42, 25, 5, 182, 0, 250, 172, 78, 42, 17, 248, 48, 45]
abbrev dktX0_told_4 : List UInt8 := dkwX0_told_4 ++ dktX0_told_5
def dkwX0_told_3 : List UInt8 := [46, 182, 0, 211, 79, 132, 5, 1, 167, 255, 229, 187, 1, 16, 89, 42, 25, 4, 43, 45, 183, 1, 18]
abbrev dktX0_told_3 : List UInt8 := dkwX0_told_3 ++ dktX0_told_4
def dkwX0_told_2 : List UInt8 := [58, 4, 3, 54, 5, 21, 5, 25, 4, 190, 162, 0, 25, 25, 4, 21, 5, 42, 44, 180, 1, 14, 21, 5]
abbrev dktX0_told_2 : List UInt8 := dkwX0_told_2 ++ dktX0_told_3
def dkwX0_told_1 : List UInt8 := [181, 0, 152, 187, 1, 2, 89, 43, 183, 1, 4, 77, 44, 182, 1, 7, 78, 44, 180, 1, 11, 188, 10]
abbrev dktX0_told_1 : List UInt8 := dkwX0_told_1 ++ dktX0_told_2
def dkwX0_told_0 : List UInt8 := [42, 180, 0, 152, 188, 8, 76, 42, 180, 0, 21, 3, 43, 3, 42, 180, 0, 152, 184, 0, 144, 42, 3]
abbrev dktX0_told_0 : List UInt8 := dkwX0_told_0 ++ dktX0_told_1
theorem dksX0_told_0 : cX0_told.data.toList.drop 0 = dktX0_told_0 := by decide +kernel
theorem dksX0_told_1 : cX0_told.data.toList.drop 23 = dktX0_told_1 := dk_seg dksX0_told_0 23 rfl rfl
theorem dksX0_told_2 : cX0_told.data.toList.drop 46 = dktX0_told_2 := dk_seg dksX0_told_1 23 rfl rfl
theorem dksX0_told_3 : cX0_told.data.toList.drop 70 = dktX0_told_3 := dk_seg dksX0_told_2 24 rfl rfl
theorem dksX0_told_4 : cX0_told.data.toList.drop 93 = dktX0_told_4 := dk_seg dksX0_told_3 23 rfl rfl
theorem dksX0_told_5 : cX0_told.data.toList.drop 117 = dktX0_told_5 := dk_seg dksX0_told_4 24 rfl rfl
theorem dksX0_told_6 : cX0_told.data.toList.drop 139 = dktX0_told_6 := dk_seg dksX0_told_5 22 rfl rfl
theorem dX0_told_0 : decode cX0_told 0 = .ok (.aload_n 0, 1) := dk_42 (dk_at dksX0_told_0 0 rfl rfl)
theorem dX0_told_1 : decode cX0_told 1 = .ok (.getfield 152, 3) := dk_180 0 152 (dk_at dksX0_told_0 1 rfl rfl)
theorem dX0_told_4 : decode cX0_told 4 = .ok (.newarray .byte, 2) := dk_188_8 (dk_at dksX0_told_0 4 rfl rfl)
theorem dX0_told_6 : decode cX0_told 6 = .ok (.astore_n 1, 1) := dk_76 (dk_at dksX0_told_0 6 rfl rfl)
theorem dX0_told_7 : decode cX0_told 7 = .ok (.aload_n 0, 1) := dk_42 (dk_at dksX0_told_0 7 rfl rfl)
theorem dX0_told_8 : decode cX0_told 8 = .ok (.getfield 21, 3) := dk_180 0 21 (dk_at dksX0_told_0 8 rfl rfl)
theorem dX0_told_11 : decode cX0_told 11 = .ok (.iconst 0, 1) := dk_3 (dk_at dksX0_told_0 11 rfl rfl)
theorem dX0_told_12 : decode cX0_told 12 = .ok (.aload_n 1, 1) := dk_43 (dk_at dksX0_told_0 12 rfl rfl)
theorem dX0_told_13 : decode cX0_told 13 = .ok (.iconst 0, 1) := dk_3 (dk_at dksX0_told_0 13 rfl rfl)
theorem dX0_told_14 : decode cX0_told 14 = .ok (.aload_n 0, 1) := dk_42 (dk_at dksX0_told_0 14 rfl rfl)
theorem dX0_told_15 : decode cX0_told 15 = .ok (.getfield 152, 3) := dk_180 0 152 (dk_at dksX0_told_0 15 rfl rfl)
theorem dX0_told_18 : decode cX0_told 18 = .ok (.invokestatic 144, 3) := dk_184 0 144 (dk_at dksX0_told_0 18 rfl rfl)
theorem dX0_told_21 : decode cX0_told 21 = .ok (.aload_n 0, 1) := dk_42 (dk_at dksX0_told_0 21 rfl rfl)
theorem dX0_told_22 : decode cX0_told 22 = .ok (.iconst 0, 1) := dk_3 (dk_at dksX0_told_0 22 rfl rfl)
theorem dX0_told_23 : decode cX0_told 23 = .ok (.putfield 152, 3) := dk_181 0 152 (dk_at dksX0_told_1 0 rfl rfl)
theorem dX0_told_26 : decode cX0_told 26 = .ok (.new 258, 3) := dk_187 1 2 (dk_at dksX0_told_1 3 rfl rfl)
theorem dX0_told_29 : decode cX0_told 29 = .ok (.dup, 1) := dk_89 (dk_at dksX0_told_1 6 rfl rfl)
theorem dX0_told_30 : decode cX0_told 30 = .ok (.aload_n 1, 1) := dk_43 (dk_at dksX0_told_1 7 rfl rfl)
theorem dX0_told_31 : decode cX0_told 31 = .ok (.invokespecial 260, 3) := dk_183 1 4 (dk_at dksX0_told_1 8 rfl rfl)
theorem dX0_told_34 : decode cX0_told 34 = .ok (.astore_n 2, 1) := dk_77 (dk_at dksX0_told_1 11 rfl rfl)
theorem dX0_told_35 : decode cX0_told 35 = .ok (.aload_n 2, 1) := dk_44 (dk_at dksX0_told_1 12 rfl rfl)
theorem dX0_told_36 : decode cX0_told 36 = .ok (.invokevirtual 263, 3) := dk_182 1 7 (dk_at dksX0_told_1 13 rfl rfl)
theorem dX0_told_39 : decode cX0_told 39 = .ok (.astore_n 3, 1) := dk_78 (dk_at dksX0_told_1 16 rfl rfl)
theorem dX0_told_40 : decode cX0_told 40 = .ok (.aload_n 2, 1) := dk_44 (dk_at dksX0_told_1 17 rfl rfl)
theorem dX0_told_41 : decode cX0_told 41 = .ok (.getfield 267, 3) := dk_180 1 11 (dk_at dksX0_told_1 18 rfl rfl)
theorem dX0_told_44 : decode cX0_told 44 = .ok (.newarray .int, 2) := dk_188_10 (dk_at dksX0_told_1 21 rfl rfl)
theorem dX0_told_46 : decode cX0_told 46 = .ok (.astore 4, 2) := dk_58 4 (dk_at dksX0_told_2 0 rfl rfl)
theorem dX0_told_48 : decode cX0_told 48 = .ok (.iconst 0, 1) := dk_3 (dk_at dksX0_told_2 2 rfl rfl)
theorem dX0_told_49 : decode cX0_told 49 = .ok (.istore 5, 2) := dk_54 5 (dk_at dksX0_told_2 3 rfl rfl)
theorem dX0_told_51 : decode cX0_told 51 = .ok (.iload 5, 2) := dk_21 5 (dk_at dksX0_told_2 5 rfl rfl)
theorem dX0_told_53 : decode cX0_told 53 = .ok (.aload 4, 2) := dk_25 4 (dk_at dksX0_told_2 7 rfl rfl)
theorem dX0_told_55 : decode cX0_told 55 = .ok (.arraylength, 1) := dk_190 (dk_at dksX0_told_2 9 rfl rfl)
theorem dX0_told_56 : decode cX0_told 56 = .ok (.if_icmp .ge 25, 3) := dk_162 0 25 (dk_at dksX0_told_2 10 rfl rfl)
theorem dX0_told_59 : decode cX0_told 59 = .ok (.aload 4, 2) := dk_25 4 (dk_at dksX0_told_2 13 rfl rfl)
theorem dX0_told_61 : decode cX0_told 61 = .ok (.iload 5, 2) := dk_21 5 (dk_at dksX0_told_2 15 rfl rfl)
theorem dX0_told_63 : decode cX0_told 63 = .ok (.aload_n 0, 1) := dk_42 (dk_at dksX0_told_2 17 rfl rfl)
theorem dX0_told_64 : decode cX0_told 64 = .ok (.aload_n 2, 1) := dk_44 (dk_at dksX0_told_2 18 rfl rfl)
theorem dX0_told_65 : decode cX0_told 65 = .ok (.getfield 270, 3) := dk_180 1 14 (dk_at dksX0_told_2 19 rfl rfl)
theorem dX0_told_68 : decode cX0_told 68 = .ok (.iload 5, 2) := dk_21 5 (dk_at dksX0_told_2 22 rfl rfl)
theorem dX0_told_70 : decode cX0_told 70 = .ok (.iaload, 1) := dk_46 (dk_at dksX0_told_3 0 rfl rfl)
theorem dX0_told_71 : decode cX0_told 71 = .ok (.invokevirtual 211, 3) := dk_182 0 211 (dk_at dksX0_told_3 1 rfl rfl)
theorem dX0_told_74 : decode cX0_told 74 = .ok (.iastore, 1) := dk_79 (dk_at dksX0_told_3 4 rfl rfl)
theorem dX0_told_75 : decode cX0_told 75 = .ok (.iinc 5 1, 3) := dk_132 5 1 (dk_at dksX0_told_3 5 rfl rfl)
theorem dX0_told_78 : decode cX0_told 78 = .ok (.goto (-27), 3) := dk_167 255 229 (dk_at dksX0_told_3 8 rfl rfl)
theorem dX0_told_81 : decode cX0_told 81 = .ok (.new 272, 3) := dk_187 1 16 (dk_at dksX0_told_3 11 rfl rfl)
theorem dX0_told_84 : decode cX0_told 84 = .ok (.dup, 1) := dk_89 (dk_at dksX0_told_3 14 rfl rfl)
theorem dX0_told_85 : decode cX0_told 85 = .ok (.aload_n 0, 1) := dk_42 (dk_at dksX0_told_3 15 rfl rfl)
theorem dX0_told_86 : decode cX0_told 86 = .ok (.aload 4, 2) := dk_25 4 (dk_at dksX0_told_3 16 rfl rfl)
theorem dX0_told_88 : decode cX0_told 88 = .ok (.aload_n 1, 1) := dk_43 (dk_at dksX0_told_3 18 rfl rfl)
theorem dX0_told_89 : decode cX0_told 89 = .ok (.aload_n 3, 1) := dk_45 (dk_at dksX0_told_3 19 rfl rfl)
theorem dX0_told_90 : decode cX0_told 90 = .ok (.invokespecial 274, 3) := dk_183 1 18 (dk_at dksX0_told_3 20 rfl rfl)
theorem dX0_told_93 : decode cX0_told 93 = .ok (.astore 5, 2) := dk_58 5 (dk_at dksX0_told_4 0 rfl rfl)
theorem dX0_told_95 : decode cX0_told 95 = .ok (.aload_n 0, 1) := dk_42 (dk_at dksX0_told_4 2 rfl rfl)
theorem dX0_told_96 : decode cX0_told 96 = .ok (.invokevirtual 244, 3) := dk_182 0 244 (dk_at dksX0_told_4 3 rfl rfl)
theorem dX0_told_99 : decode cX0_told 99 = .ok (.aload 5, 2) := dk_25 5 (dk_at dksX0_told_4 6 rfl rfl)
theorem dX0_told_101 : decode cX0_told 101 = .ok (.invokevirtual 247, 3) := dk_182 0 247 (dk_at dksX0_told_4 8 rfl rfl)
theorem dX0_told_104 : decode cX0_told 104 = .ok (.aload_n 0, 1) := dk_42 (dk_at dksX0_told_4 11 rfl rfl)
theorem dX0_told_105 : decode cX0_told 105 = .ok (.aload 5, 2) := dk_25 5 (dk_at dksX0_told_4 12 rfl rfl)
theorem dX0_told_107 : decode cX0_told 107 = .ok (.invokevirtual 250, 3) := dk_182 0 250 (dk_at dksX0_told_4 14 rfl rfl)
theorem dX0_told_110 : decode cX0_told 110 = .ok (.ireturn, 1) := dk_172 (dk_at dksX0_told_4 17 rfl rfl)
theorem dX0_told_111 : decode cX0_told 111 = .ok (.astore_n 3, 1) := dk_78 (dk_at dksX0_told_4 18 rfl rfl)
theorem dX0_told_112 : decode cX0_told 112 = .ok (.aload_n 0, 1) := dk_42 (dk_at dksX0_told_4 19 rfl rfl)
theorem dX0_told_113 : decode cX0_told 113 = .ok (.sipush (-2000), 3) := dk_17 248 48 (dk_at dksX0_told_4 20 rfl rfl)
theorem dX0_told_116 : decode cX0_told 116 = .ok (.aload_n 3, 1) := dk_45 (dk_at dksX0_told_4 23 rfl rfl)
theorem dX0_told_117 : decode cX0_told 117 = .ok (.getfield 279, 3) := dk_180 1 23 (dk_at dksX0_told_5 0 rfl rfl)
theorem dX0_told_120 : decode cX0_told 120 = .ok (.isub, 1) := dk_100 (dk_at dksX0_told_5 3 rfl rfl)
theorem dX0_told_121 : decode cX0_told 121 = .ok (.invokevirtual 124, 3) := dk_182 0 124 (dk_at dksX0_told_5 4 rfl rfl)
theorem dX0_told_124 : decode cX0_told 124 = .ok (.ireturn, 1) := dk_172 (dk_at dksX0_told_5 7 rfl rfl)
theorem dX0_told_125 : decode cX0_told 125 = .ok (.astore_n 3, 1) := dk_78 (dk_at dksX0_told_5 8 rfl rfl)
theorem dX0_told_126 : decode cX0_told 126 = .ok (.aload_n 0, 1) := dk_42 (dk_at dksX0_told_5 9 rfl rfl)
theorem dX0_told_127 : decode cX0_told 127 = .ok (.sipush (-1011), 3) := dk_17 252 13 (dk_at dksX0_told_5 10 rfl rfl)
theorem dX0_told_130 : decode cX0_told 130 = .ok (.invokevirtual 124, 3) := dk_182 0 124 (dk_at dksX0_told_5 13 rfl rfl)
theorem dX0_told_133 : decode cX0_told 133 = .ok (.ireturn, 1) := dk_172 (dk_at dksX0_told_5 16 rfl rfl)
theorem dX0_told_134 : decode cX0_told 134 = .ok (.astore_n 3, 1) := dk_78 (dk_at dksX0_told_5 17 rfl rfl)
theorem dX0_told_135 : decode cX0_told 135 = .ok (.aload_n 0, 1) := dk_42 (dk_at dksX0_told_5 18 rfl rfl)
theorem dX0_told_136 : decode cX0_told 136 = .ok (.sipush (-1012), 3) := dk_17 252 12 (dk_at dksX0_told_5 19 rfl rfl)
theorem dX0_told_139 : decode cX0_told 139 = .ok (.invokevirtual 124, 3) := dk_182 0 124 (dk_at dksX0_told_6 0 rfl rfl)
theorem dX0_told_142 : decode cX0_told 142 = .ok (.ireturn, 1) := dk_172 (dk_at dksX0_told_6 3 rfl rfl)
abbrev cX0_kind : ByteArray := prog_1_method_40_code
def yX0_kind : MethodName := ⟨RX0, "kind", "(I)I"⟩
def dkwX0_kind_1 : List UInt8 := [182, 0, 124, 172]
abbrev dktX0_kind_1 : List UInt8 := dkwX0_kind_1 ++ []
def dkwX0_kind_0 : List UInt8 := [42, 27, 182, 1, 26, 153, 0, 15, 42, 180, 0, 45, 27, 50, 180, 1, 29, 167, 0, 10, 42, 17, 252, 23]
abbrev dktX0_kind_0 : List UInt8 := dkwX0_kind_0 ++ dktX0_kind_1
theorem dksX0_kind_0 : cX0_kind.data.toList.drop 0 = dktX0_kind_0 := by decide +kernel
theorem dksX0_kind_1 : cX0_kind.data.toList.drop 24 = dktX0_kind_1 := dk_seg dksX0_kind_0 24 rfl rfl
theorem dX0_kind_0 : decode cX0_kind 0 = .ok (.aload_n 0, 1) := dk_42 (dk_at dksX0_kind_0 0 rfl rfl)
theorem dX0_kind_1 : decode cX0_kind 1 = .ok (.iload_n 1, 1) := dk_27 (dk_at dksX0_kind_0 1 rfl rfl)
theorem dX0_kind_2 : decode cX0_kind 2 = .ok (.invokevirtual 282, 3) := dk_182 1 26 (dk_at dksX0_kind_0 2 rfl rfl)
theorem dX0_kind_5 : decode cX0_kind 5 = .ok (.ifCond .eq 15, 3) := dk_153 0 15 (dk_at dksX0_kind_0 5 rfl rfl)
theorem dX0_kind_8 : decode cX0_kind 8 = .ok (.aload_n 0, 1) := dk_42 (dk_at dksX0_kind_0 8 rfl rfl)
theorem dX0_kind_9 : decode cX0_kind 9 = .ok (.getfield 45, 3) := dk_180 0 45 (dk_at dksX0_kind_0 9 rfl rfl)
theorem dX0_kind_12 : decode cX0_kind 12 = .ok (.iload_n 1, 1) := dk_27 (dk_at dksX0_kind_0 12 rfl rfl)
theorem dX0_kind_13 : decode cX0_kind 13 = .ok (.aaload, 1) := dk_50 (dk_at dksX0_kind_0 13 rfl rfl)
theorem dX0_kind_14 : decode cX0_kind 14 = .ok (.getfield 285, 3) := dk_180 1 29 (dk_at dksX0_kind_0 14 rfl rfl)
theorem dX0_kind_17 : decode cX0_kind 17 = .ok (.goto 10, 3) := dk_167 0 10 (dk_at dksX0_kind_0 17 rfl rfl)
theorem dX0_kind_20 : decode cX0_kind 20 = .ok (.aload_n 0, 1) := dk_42 (dk_at dksX0_kind_0 20 rfl rfl)
theorem dX0_kind_21 : decode cX0_kind 21 = .ok (.sipush (-1001), 3) := dk_17 252 23 (dk_at dksX0_kind_0 21 rfl rfl)
theorem dX0_kind_24 : decode cX0_kind 24 = .ok (.invokevirtual 124, 3) := dk_182 0 124 (dk_at dksX0_kind_1 0 rfl rfl)
theorem dX0_kind_27 : decode cX0_kind 27 = .ok (.ireturn, 1) := dk_172 (dk_at dksX0_kind_1 3 rfl rfl)
abbrev cX0_isRule : ByteArray := prog_1_method_31_code
def yX0_isRule : MethodName := ⟨RX0, "isRule", "(I)Z"⟩
def dkwX0_isRule_0 : List UInt8 := [27, 133, 9, 42, 180, 0, 199, 4, 100, 133, 184, 0, 109, 172]
abbrev dktX0_isRule_0 : List UInt8 := dkwX0_isRule_0 ++ []
theorem dksX0_isRule_0 : cX0_isRule.data.toList.drop 0 = dktX0_isRule_0 := by decide +kernel
theorem dX0_isRule_0 : decode cX0_isRule 0 = .ok (.iload_n 1, 1) := dk_27 (dk_at dksX0_isRule_0 0 rfl rfl)
theorem dX0_isRule_1 : decode cX0_isRule 1 = .ok (.i2l, 1) := dk_133 (dk_at dksX0_isRule_0 1 rfl rfl)
theorem dX0_isRule_2 : decode cX0_isRule 2 = .ok (.lconst 0, 1) := dk_9 (dk_at dksX0_isRule_0 2 rfl rfl)
theorem dX0_isRule_3 : decode cX0_isRule 3 = .ok (.aload_n 0, 1) := dk_42 (dk_at dksX0_isRule_0 3 rfl rfl)
theorem dX0_isRule_4 : decode cX0_isRule 4 = .ok (.getfield 199, 3) := dk_180 0 199 (dk_at dksX0_isRule_0 4 rfl rfl)
theorem dX0_isRule_7 : decode cX0_isRule 7 = .ok (.iconst 1, 1) := dk_4 (dk_at dksX0_isRule_0 7 rfl rfl)
theorem dX0_isRule_8 : decode cX0_isRule 8 = .ok (.isub, 1) := dk_100 (dk_at dksX0_isRule_0 8 rfl rfl)
theorem dX0_isRule_9 : decode cX0_isRule 9 = .ok (.i2l, 1) := dk_133 (dk_at dksX0_isRule_0 9 rfl rfl)
theorem dX0_isRule_10 : decode cX0_isRule 10 = .ok (.invokestatic 109, 3) := dk_184 0 109 (dk_at dksX0_isRule_0 10 rfl rfl)
theorem dX0_isRule_13 : decode cX0_isRule 13 = .ok (.ireturn, 1) := dk_172 (dk_at dksX0_isRule_0 13 rfl rfl)
abbrev cX0_as : ByteArray := prog_1_method_42_code
def yX0_as : MethodName := ⟨RX0, "as", "(II)I"⟩
def dkwX0_as_2 : List UInt8 := [3, 172, 78, 42, 17, 252, 11, 182, 0, 124, 172]
abbrev dktX0_as_2 : List UInt8 := dkwX0_as_2 ++ []
def dkwX0_as_1 : List UInt8 := [182, 0, 124, 172, 42, 180, 0, 45, 27, 50, 28, 184, 1, 34, 180, 0, 208, 155, 0, 7, 4, 167, 0, 4]
abbrev dktX0_as_1 : List UInt8 := dkwX0_as_1 ++ dktX0_as_2
def dkwX0_as_0 : List UInt8 := [42, 27, 182, 1, 26, 153, 0, 15, 28, 133, 9, 20, 1, 32, 184, 0, 109, 154, 0, 11, 42, 17, 252, 23]
abbrev dktX0_as_0 : List UInt8 := dkwX0_as_0 ++ dktX0_as_1
theorem dksX0_as_0 : cX0_as.data.toList.drop 0 = dktX0_as_0 := by decide +kernel
theorem dksX0_as_1 : cX0_as.data.toList.drop 24 = dktX0_as_1 := dk_seg dksX0_as_0 24 rfl rfl
theorem dksX0_as_2 : cX0_as.data.toList.drop 48 = dktX0_as_2 := dk_seg dksX0_as_1 24 rfl rfl
theorem dX0_as_0 : decode cX0_as 0 = .ok (.aload_n 0, 1) := dk_42 (dk_at dksX0_as_0 0 rfl rfl)
theorem dX0_as_1 : decode cX0_as 1 = .ok (.iload_n 1, 1) := dk_27 (dk_at dksX0_as_0 1 rfl rfl)
theorem dX0_as_2 : decode cX0_as 2 = .ok (.invokevirtual 282, 3) := dk_182 1 26 (dk_at dksX0_as_0 2 rfl rfl)
theorem dX0_as_5 : decode cX0_as 5 = .ok (.ifCond .eq 15, 3) := dk_153 0 15 (dk_at dksX0_as_0 5 rfl rfl)
theorem dX0_as_8 : decode cX0_as 8 = .ok (.iload_n 2, 1) := dk_28 (dk_at dksX0_as_0 8 rfl rfl)
theorem dX0_as_9 : decode cX0_as 9 = .ok (.i2l, 1) := dk_133 (dk_at dksX0_as_0 9 rfl rfl)
theorem dX0_as_10 : decode cX0_as 10 = .ok (.lconst 0, 1) := dk_9 (dk_at dksX0_as_0 10 rfl rfl)
theorem dX0_as_11 : decode cX0_as 11 = .ok (.ldc2_w 288, 3) := dk_20 1 32 (dk_at dksX0_as_0 11 rfl rfl)
theorem dX0_as_14 : decode cX0_as 14 = .ok (.invokestatic 109, 3) := dk_184 0 109 (dk_at dksX0_as_0 14 rfl rfl)
theorem dX0_as_17 : decode cX0_as 17 = .ok (.ifCond .ne 11, 3) := dk_154 0 11 (dk_at dksX0_as_0 17 rfl rfl)
theorem dX0_as_20 : decode cX0_as 20 = .ok (.aload_n 0, 1) := dk_42 (dk_at dksX0_as_0 20 rfl rfl)
theorem dX0_as_21 : decode cX0_as 21 = .ok (.sipush (-1001), 3) := dk_17 252 23 (dk_at dksX0_as_0 21 rfl rfl)
theorem dX0_as_24 : decode cX0_as 24 = .ok (.invokevirtual 124, 3) := dk_182 0 124 (dk_at dksX0_as_1 0 rfl rfl)
theorem dX0_as_27 : decode cX0_as 27 = .ok (.ireturn, 1) := dk_172 (dk_at dksX0_as_1 3 rfl rfl)
theorem dX0_as_28 : decode cX0_as 28 = .ok (.aload_n 0, 1) := dk_42 (dk_at dksX0_as_1 4 rfl rfl)
theorem dX0_as_29 : decode cX0_as 29 = .ok (.getfield 45, 3) := dk_180 0 45 (dk_at dksX0_as_1 5 rfl rfl)
theorem dX0_as_32 : decode cX0_as 32 = .ok (.iload_n 1, 1) := dk_27 (dk_at dksX0_as_1 8 rfl rfl)
theorem dX0_as_33 : decode cX0_as 33 = .ok (.aaload, 1) := dk_50 (dk_at dksX0_as_1 9 rfl rfl)
theorem dX0_as_34 : decode cX0_as 34 = .ok (.iload_n 2, 1) := dk_28 (dk_at dksX0_as_1 10 rfl rfl)
theorem dX0_as_35 : decode cX0_as 35 = .ok (.invokestatic 290, 3) := dk_184 1 34 (dk_at dksX0_as_1 11 rfl rfl)
theorem dX0_as_38 : decode cX0_as 38 = .ok (.getfield 208, 3) := dk_180 0 208 (dk_at dksX0_as_1 14 rfl rfl)
theorem dX0_as_41 : decode cX0_as 41 = .ok (.ifCond .lt 7, 3) := dk_155 0 7 (dk_at dksX0_as_1 17 rfl rfl)
theorem dX0_as_44 : decode cX0_as 44 = .ok (.iconst 1, 1) := dk_4 (dk_at dksX0_as_1 20 rfl rfl)
theorem dX0_as_45 : decode cX0_as 45 = .ok (.goto 4, 3) := dk_167 0 4 (dk_at dksX0_as_1 21 rfl rfl)
theorem dX0_as_48 : decode cX0_as 48 = .ok (.iconst 0, 1) := dk_3 (dk_at dksX0_as_2 0 rfl rfl)
theorem dX0_as_49 : decode cX0_as 49 = .ok (.ireturn, 1) := dk_172 (dk_at dksX0_as_2 1 rfl rfl)
theorem dX0_as_50 : decode cX0_as 50 = .ok (.astore_n 3, 1) := dk_78 (dk_at dksX0_as_2 2 rfl rfl)
theorem dX0_as_51 : decode cX0_as 51 = .ok (.aload_n 0, 1) := dk_42 (dk_at dksX0_as_2 3 rfl rfl)
theorem dX0_as_52 : decode cX0_as 52 = .ok (.sipush (-1013), 3) := dk_17 252 11 (dk_at dksX0_as_2 4 rfl rfl)
theorem dX0_as_55 : decode cX0_as 55 = .ok (.invokevirtual 124, 3) := dk_182 0 124 (dk_at dksX0_as_2 7 rfl rfl)
theorem dX0_as_58 : decode cX0_as 58 = .ok (.ireturn, 1) := dk_172 (dk_at dksX0_as_2 10 rfl rfl)
abbrev cX0_taken : ByteArray := prog_1_method_41_code
def yX0_taken : MethodName := ⟨RX0, "taken", "(LClauseCourt$Rule;I)LClauseCourt$Rule;"⟩
def dkwX0_taken_3 : List UInt8 := [176]
abbrev dktX0_taken_3 : List UInt8 := dkwX0_taken_3 ++ []
def dkwX0_taken_2 : List UInt8 := [42, 192, 0, 218, 176, 42, 192, 0, 223, 176, 42, 192, 0, 228, 176, 42, 192, 0, 233, 176, 42, 192, 1, 16]
abbrev dktX0_taken_2 : List UInt8 := dkwX0_taken_2 ++ dktX0_taken_3
def dkwX0_taken_1 : List UInt8 := [170, 0, 0, 0, 0, 0, 51, 0, 0, 0, 0, 0, 0, 0, 3, 0, 0, 0, 31, 0, 0, 0, 36, 0, 0, 0, 41, 0, 0, 0, 46]
abbrev dktX0_taken_1 : List UInt8 := dkwX0_taken_1 ++ dktX0_taken_2
def dkwX0_taken_0 : List UInt8 := [27]
abbrev dktX0_taken_0 : List UInt8 := dkwX0_taken_0 ++ dktX0_taken_1
theorem dksX0_taken_0 : cX0_taken.data.toList.drop 0 = dktX0_taken_0 := by decide +kernel
theorem dksX0_taken_1 : cX0_taken.data.toList.drop 1 = dktX0_taken_1 := dk_seg dksX0_taken_0 1 rfl rfl
theorem dksX0_taken_2 : cX0_taken.data.toList.drop 32 = dktX0_taken_2 := dk_seg dksX0_taken_1 31 rfl rfl
theorem dksX0_taken_3 : cX0_taken.data.toList.drop 56 = dktX0_taken_3 := dk_seg dksX0_taken_2 24 rfl rfl
theorem dX0_taken_0 : decode cX0_taken 0 = .ok (.iload_n 1, 1) := dk_27 (dk_at dksX0_taken_0 0 rfl rfl)
theorem dX0_taken_1 : decode cX0_taken 1 = .ok (.tableswitch 51 0 3 #[31, 36, 41, 46], 31) := by decide +kernel
theorem dX0_taken_32 : decode cX0_taken 32 = .ok (.aload_n 0, 1) := dk_42 (dk_at dksX0_taken_2 0 rfl rfl)
theorem dX0_taken_33 : decode cX0_taken 33 = .ok (.checkcast 218, 3) := dk_192 0 218 (dk_at dksX0_taken_2 1 rfl rfl)
theorem dX0_taken_36 : decode cX0_taken 36 = .ok (.areturn, 1) := dk_176 (dk_at dksX0_taken_2 4 rfl rfl)
theorem dX0_taken_37 : decode cX0_taken 37 = .ok (.aload_n 0, 1) := dk_42 (dk_at dksX0_taken_2 5 rfl rfl)
theorem dX0_taken_38 : decode cX0_taken 38 = .ok (.checkcast 223, 3) := dk_192 0 223 (dk_at dksX0_taken_2 6 rfl rfl)
theorem dX0_taken_41 : decode cX0_taken 41 = .ok (.areturn, 1) := dk_176 (dk_at dksX0_taken_2 9 rfl rfl)
theorem dX0_taken_42 : decode cX0_taken 42 = .ok (.aload_n 0, 1) := dk_42 (dk_at dksX0_taken_2 10 rfl rfl)
theorem dX0_taken_43 : decode cX0_taken 43 = .ok (.checkcast 228, 3) := dk_192 0 228 (dk_at dksX0_taken_2 11 rfl rfl)
theorem dX0_taken_46 : decode cX0_taken 46 = .ok (.areturn, 1) := dk_176 (dk_at dksX0_taken_2 14 rfl rfl)
theorem dX0_taken_47 : decode cX0_taken 47 = .ok (.aload_n 0, 1) := dk_42 (dk_at dksX0_taken_2 15 rfl rfl)
theorem dX0_taken_48 : decode cX0_taken 48 = .ok (.checkcast 233, 3) := dk_192 0 233 (dk_at dksX0_taken_2 16 rfl rfl)
theorem dX0_taken_51 : decode cX0_taken 51 = .ok (.areturn, 1) := dk_176 (dk_at dksX0_taken_2 19 rfl rfl)
theorem dX0_taken_52 : decode cX0_taken 52 = .ok (.aload_n 0, 1) := dk_42 (dk_at dksX0_taken_2 20 rfl rfl)
theorem dX0_taken_53 : decode cX0_taken 53 = .ok (.checkcast 272, 3) := dk_192 1 16 (dk_at dksX0_taken_2 21 rfl rfl)
theorem dX0_taken_56 : decode cX0_taken 56 = .ok (.areturn, 1) := dk_176 (dk_at dksX0_taken_3 0 rfl rfl)
abbrev cX0_item : ByteArray := prog_1_method_43_code
def yX0_item : MethodName := ⟨RX0, "item", "(II)I"⟩
def dkwX0_item_2 : List UInt8 := [184, 0, 109, 153, 0, 9, 45, 28, 46, 167, 0, 6, 17, 252, 19, 172]
abbrev dktX0_item_2 : List UInt8 := dkwX0_item_2 ++ []
def dkwX0_item_1 : List UInt8 := [180, 1, 40, 78, 28, 2, 160, 0, 8, 45, 190, 167, 0, 26, 28, 133, 9, 45, 190, 4, 100, 133]
abbrev dktX0_item_1 : List UInt8 := dkwX0_item_1 ++ dktX0_item_2
def dkwX0_item_0 : List UInt8 := [42, 27, 182, 1, 26, 154, 0, 11, 42, 17, 252, 23, 182, 0, 124, 172, 42, 180, 0, 45, 27, 50]
abbrev dktX0_item_0 : List UInt8 := dkwX0_item_0 ++ dktX0_item_1
theorem dksX0_item_0 : cX0_item.data.toList.drop 0 = dktX0_item_0 := by decide +kernel
theorem dksX0_item_1 : cX0_item.data.toList.drop 22 = dktX0_item_1 := dk_seg dksX0_item_0 22 rfl rfl
theorem dksX0_item_2 : cX0_item.data.toList.drop 44 = dktX0_item_2 := dk_seg dksX0_item_1 22 rfl rfl
theorem dX0_item_0 : decode cX0_item 0 = .ok (.aload_n 0, 1) := dk_42 (dk_at dksX0_item_0 0 rfl rfl)
theorem dX0_item_1 : decode cX0_item 1 = .ok (.iload_n 1, 1) := dk_27 (dk_at dksX0_item_0 1 rfl rfl)
theorem dX0_item_2 : decode cX0_item 2 = .ok (.invokevirtual 282, 3) := dk_182 1 26 (dk_at dksX0_item_0 2 rfl rfl)
theorem dX0_item_5 : decode cX0_item 5 = .ok (.ifCond .ne 11, 3) := dk_154 0 11 (dk_at dksX0_item_0 5 rfl rfl)
theorem dX0_item_8 : decode cX0_item 8 = .ok (.aload_n 0, 1) := dk_42 (dk_at dksX0_item_0 8 rfl rfl)
theorem dX0_item_9 : decode cX0_item 9 = .ok (.sipush (-1001), 3) := dk_17 252 23 (dk_at dksX0_item_0 9 rfl rfl)
theorem dX0_item_12 : decode cX0_item 12 = .ok (.invokevirtual 124, 3) := dk_182 0 124 (dk_at dksX0_item_0 12 rfl rfl)
theorem dX0_item_15 : decode cX0_item 15 = .ok (.ireturn, 1) := dk_172 (dk_at dksX0_item_0 15 rfl rfl)
theorem dX0_item_16 : decode cX0_item 16 = .ok (.aload_n 0, 1) := dk_42 (dk_at dksX0_item_0 16 rfl rfl)
theorem dX0_item_17 : decode cX0_item 17 = .ok (.getfield 45, 3) := dk_180 0 45 (dk_at dksX0_item_0 17 rfl rfl)
theorem dX0_item_20 : decode cX0_item 20 = .ok (.iload_n 1, 1) := dk_27 (dk_at dksX0_item_0 20 rfl rfl)
theorem dX0_item_21 : decode cX0_item 21 = .ok (.aaload, 1) := dk_50 (dk_at dksX0_item_0 21 rfl rfl)
theorem dX0_item_22 : decode cX0_item 22 = .ok (.getfield 296, 3) := dk_180 1 40 (dk_at dksX0_item_1 0 rfl rfl)
theorem dX0_item_25 : decode cX0_item 25 = .ok (.astore_n 3, 1) := dk_78 (dk_at dksX0_item_1 3 rfl rfl)
theorem dX0_item_26 : decode cX0_item 26 = .ok (.iload_n 2, 1) := dk_28 (dk_at dksX0_item_1 4 rfl rfl)
theorem dX0_item_27 : decode cX0_item 27 = .ok (.iconst (-1), 1) := dk_2 (dk_at dksX0_item_1 5 rfl rfl)
theorem dX0_item_28 : decode cX0_item 28 = .ok (.if_icmp .ne 8, 3) := dk_160 0 8 (dk_at dksX0_item_1 6 rfl rfl)
theorem dX0_item_31 : decode cX0_item 31 = .ok (.aload_n 3, 1) := dk_45 (dk_at dksX0_item_1 9 rfl rfl)
theorem dX0_item_32 : decode cX0_item 32 = .ok (.arraylength, 1) := dk_190 (dk_at dksX0_item_1 10 rfl rfl)
theorem dX0_item_33 : decode cX0_item 33 = .ok (.goto 26, 3) := dk_167 0 26 (dk_at dksX0_item_1 11 rfl rfl)
theorem dX0_item_36 : decode cX0_item 36 = .ok (.iload_n 2, 1) := dk_28 (dk_at dksX0_item_1 14 rfl rfl)
theorem dX0_item_37 : decode cX0_item 37 = .ok (.i2l, 1) := dk_133 (dk_at dksX0_item_1 15 rfl rfl)
theorem dX0_item_38 : decode cX0_item 38 = .ok (.lconst 0, 1) := dk_9 (dk_at dksX0_item_1 16 rfl rfl)
theorem dX0_item_39 : decode cX0_item 39 = .ok (.aload_n 3, 1) := dk_45 (dk_at dksX0_item_1 17 rfl rfl)
theorem dX0_item_40 : decode cX0_item 40 = .ok (.arraylength, 1) := dk_190 (dk_at dksX0_item_1 18 rfl rfl)
theorem dX0_item_41 : decode cX0_item 41 = .ok (.iconst 1, 1) := dk_4 (dk_at dksX0_item_1 19 rfl rfl)
theorem dX0_item_42 : decode cX0_item 42 = .ok (.isub, 1) := dk_100 (dk_at dksX0_item_1 20 rfl rfl)
theorem dX0_item_43 : decode cX0_item 43 = .ok (.i2l, 1) := dk_133 (dk_at dksX0_item_1 21 rfl rfl)
theorem dX0_item_44 : decode cX0_item 44 = .ok (.invokestatic 109, 3) := dk_184 0 109 (dk_at dksX0_item_2 0 rfl rfl)
theorem dX0_item_47 : decode cX0_item 47 = .ok (.ifCond .eq 9, 3) := dk_153 0 9 (dk_at dksX0_item_2 3 rfl rfl)
theorem dX0_item_50 : decode cX0_item 50 = .ok (.aload_n 3, 1) := dk_45 (dk_at dksX0_item_2 6 rfl rfl)
theorem dX0_item_51 : decode cX0_item 51 = .ok (.iload_n 2, 1) := dk_28 (dk_at dksX0_item_2 7 rfl rfl)
theorem dX0_item_52 : decode cX0_item 52 = .ok (.iaload, 1) := dk_46 (dk_at dksX0_item_2 8 rfl rfl)
theorem dX0_item_53 : decode cX0_item 53 = .ok (.goto 6, 3) := dk_167 0 6 (dk_at dksX0_item_2 9 rfl rfl)
theorem dX0_item_56 : decode cX0_item 56 = .ok (.sipush (-1005), 3) := dk_17 252 19 (dk_at dksX0_item_2 12 rfl rfl)
theorem dX0_item_59 : decode cX0_item 59 = .ok (.ireturn, 1) := dk_172 (dk_at dksX0_item_2 15 rfl rfl)
abbrev cX0_rows : ByteArray := prog_1_method_44_code
def yX0_rows : MethodName := ⟨RX0, "rows", "(II)I"⟩
def dkwX0_rows_2 : List UInt8 := [167, 0, 6, 17, 252, 19, 172]
abbrev dktX0_rows_2 : List UInt8 := dkwX0_rows_2 ++ []
def dkwX0_rows_1 : List UInt8 := [50, 180, 0, 208, 4, 100, 133, 184, 0, 109, 153, 0, 17, 42, 180, 0, 45, 27, 50, 180, 0, 205, 28, 96]
abbrev dktX0_rows_1 : List UInt8 := dkwX0_rows_1 ++ dktX0_rows_2
def dkwX0_rows_0 : List UInt8 := [42, 27, 182, 1, 26, 154, 0, 11, 42, 17, 252, 23, 182, 0, 124, 172, 28, 133, 9, 42, 180, 0, 45, 27]
abbrev dktX0_rows_0 : List UInt8 := dkwX0_rows_0 ++ dktX0_rows_1
theorem dksX0_rows_0 : cX0_rows.data.toList.drop 0 = dktX0_rows_0 := by decide +kernel
theorem dksX0_rows_1 : cX0_rows.data.toList.drop 24 = dktX0_rows_1 := dk_seg dksX0_rows_0 24 rfl rfl
theorem dksX0_rows_2 : cX0_rows.data.toList.drop 48 = dktX0_rows_2 := dk_seg dksX0_rows_1 24 rfl rfl
theorem dX0_rows_0 : decode cX0_rows 0 = .ok (.aload_n 0, 1) := dk_42 (dk_at dksX0_rows_0 0 rfl rfl)
theorem dX0_rows_1 : decode cX0_rows 1 = .ok (.iload_n 1, 1) := dk_27 (dk_at dksX0_rows_0 1 rfl rfl)
theorem dX0_rows_2 : decode cX0_rows 2 = .ok (.invokevirtual 282, 3) := dk_182 1 26 (dk_at dksX0_rows_0 2 rfl rfl)
theorem dX0_rows_5 : decode cX0_rows 5 = .ok (.ifCond .ne 11, 3) := dk_154 0 11 (dk_at dksX0_rows_0 5 rfl rfl)
theorem dX0_rows_8 : decode cX0_rows 8 = .ok (.aload_n 0, 1) := dk_42 (dk_at dksX0_rows_0 8 rfl rfl)
theorem dX0_rows_9 : decode cX0_rows 9 = .ok (.sipush (-1001), 3) := dk_17 252 23 (dk_at dksX0_rows_0 9 rfl rfl)
theorem dX0_rows_12 : decode cX0_rows 12 = .ok (.invokevirtual 124, 3) := dk_182 0 124 (dk_at dksX0_rows_0 12 rfl rfl)
theorem dX0_rows_15 : decode cX0_rows 15 = .ok (.ireturn, 1) := dk_172 (dk_at dksX0_rows_0 15 rfl rfl)
theorem dX0_rows_16 : decode cX0_rows 16 = .ok (.iload_n 2, 1) := dk_28 (dk_at dksX0_rows_0 16 rfl rfl)
theorem dX0_rows_17 : decode cX0_rows 17 = .ok (.i2l, 1) := dk_133 (dk_at dksX0_rows_0 17 rfl rfl)
theorem dX0_rows_18 : decode cX0_rows 18 = .ok (.lconst 0, 1) := dk_9 (dk_at dksX0_rows_0 18 rfl rfl)
theorem dX0_rows_19 : decode cX0_rows 19 = .ok (.aload_n 0, 1) := dk_42 (dk_at dksX0_rows_0 19 rfl rfl)
theorem dX0_rows_20 : decode cX0_rows 20 = .ok (.getfield 45, 3) := dk_180 0 45 (dk_at dksX0_rows_0 20 rfl rfl)
theorem dX0_rows_23 : decode cX0_rows 23 = .ok (.iload_n 1, 1) := dk_27 (dk_at dksX0_rows_0 23 rfl rfl)
theorem dX0_rows_24 : decode cX0_rows 24 = .ok (.aaload, 1) := dk_50 (dk_at dksX0_rows_1 0 rfl rfl)
theorem dX0_rows_25 : decode cX0_rows 25 = .ok (.getfield 208, 3) := dk_180 0 208 (dk_at dksX0_rows_1 1 rfl rfl)
theorem dX0_rows_28 : decode cX0_rows 28 = .ok (.iconst 1, 1) := dk_4 (dk_at dksX0_rows_1 4 rfl rfl)
theorem dX0_rows_29 : decode cX0_rows 29 = .ok (.isub, 1) := dk_100 (dk_at dksX0_rows_1 5 rfl rfl)
theorem dX0_rows_30 : decode cX0_rows 30 = .ok (.i2l, 1) := dk_133 (dk_at dksX0_rows_1 6 rfl rfl)
theorem dX0_rows_31 : decode cX0_rows 31 = .ok (.invokestatic 109, 3) := dk_184 0 109 (dk_at dksX0_rows_1 7 rfl rfl)
theorem dX0_rows_34 : decode cX0_rows 34 = .ok (.ifCond .eq 17, 3) := dk_153 0 17 (dk_at dksX0_rows_1 10 rfl rfl)
theorem dX0_rows_37 : decode cX0_rows 37 = .ok (.aload_n 0, 1) := dk_42 (dk_at dksX0_rows_1 13 rfl rfl)
theorem dX0_rows_38 : decode cX0_rows 38 = .ok (.getfield 45, 3) := dk_180 0 45 (dk_at dksX0_rows_1 14 rfl rfl)
theorem dX0_rows_41 : decode cX0_rows 41 = .ok (.iload_n 1, 1) := dk_27 (dk_at dksX0_rows_1 17 rfl rfl)
theorem dX0_rows_42 : decode cX0_rows 42 = .ok (.aaload, 1) := dk_50 (dk_at dksX0_rows_1 18 rfl rfl)
theorem dX0_rows_43 : decode cX0_rows 43 = .ok (.getfield 205, 3) := dk_180 0 205 (dk_at dksX0_rows_1 19 rfl rfl)
theorem dX0_rows_46 : decode cX0_rows 46 = .ok (.iload_n 2, 1) := dk_28 (dk_at dksX0_rows_1 22 rfl rfl)
theorem dX0_rows_47 : decode cX0_rows 47 = .ok (.iadd, 1) := dk_96 (dk_at dksX0_rows_1 23 rfl rfl)
theorem dX0_rows_48 : decode cX0_rows 48 = .ok (.goto 6, 3) := dk_167 0 6 (dk_at dksX0_rows_2 0 rfl rfl)
theorem dX0_rows_51 : decode cX0_rows 51 = .ok (.sipush (-1005), 3) := dk_17 252 19 (dk_at dksX0_rows_2 3 rfl rfl)
theorem dX0_rows_54 : decode cX0_rows 54 = .ok (.ireturn, 1) := dk_172 (dk_at dksX0_rows_2 6 rfl rfl)
abbrev cX0_ask : ByteArray := prog_1_method_45_code
def yX0_ask : MethodName := ⟨RX0, "ask", "(II)I"⟩
def dkwX0_ask_6 : List UInt8 := [50, 182, 1, 60, 172]
abbrev dktX0_ask_6 : List UInt8 := dkwX0_ask_6 ++ []
def dkwX0_ask_5 : List UInt8 := [180, 0, 45, 27, 50, 182, 1, 54, 172, 42, 180, 0, 45, 27, 50, 182, 1, 57, 172, 42, 180, 0, 45, 27]
abbrev dktX0_ask_5 : List UInt8 := dkwX0_ask_5 ++ dktX0_ask_6
def dkwX0_ask_4 : List UInt8 := [42, 180, 0, 45, 27, 50, 42, 180, 0, 64, 182, 1, 50, 153, 0, 7, 4, 167, 0, 4, 3, 172, 42]
abbrev dktX0_ask_4 : List UInt8 := dkwX0_ask_4 ++ dktX0_ask_5
def dkwX0_ask_3 : List UInt8 := [170, 0, 0, 0, 0, 68, 0, 0, 0, 0, 0, 0, 0, 2, 0, 0, 0, 26, 0, 0, 0, 48, 0, 0, 0, 58]
abbrev dktX0_ask_3 : List UInt8 := dkwX0_ask_3 ++ dktX0_ask_4
def dkwX0_ask_2 : List UInt8 := [180, 1, 49, 161, 0, 11, 42, 17, 252, 22, 182, 0, 124, 172, 28]
abbrev dktX0_ask_2 : List UInt8 := dkwX0_ask_2 ++ dktX0_ask_3
def dkwX0_ask_1 : List UInt8 := [182, 0, 124, 172, 28, 154, 0, 32, 42, 180, 0, 64, 180, 1, 45, 153, 0, 14, 27, 42, 180, 0, 64]
abbrev dktX0_ask_1 : List UInt8 := dkwX0_ask_1 ++ dktX0_ask_2
def dkwX0_ask_0 : List UInt8 := [42, 27, 182, 1, 26, 153, 0, 15, 28, 133, 9, 20, 1, 43, 184, 0, 109, 154, 0, 11, 42, 17, 252, 23]
abbrev dktX0_ask_0 : List UInt8 := dkwX0_ask_0 ++ dktX0_ask_1
theorem dksX0_ask_0 : cX0_ask.data.toList.drop 0 = dktX0_ask_0 := by decide +kernel
theorem dksX0_ask_1 : cX0_ask.data.toList.drop 24 = dktX0_ask_1 := dk_seg dksX0_ask_0 24 rfl rfl
theorem dksX0_ask_2 : cX0_ask.data.toList.drop 47 = dktX0_ask_2 := dk_seg dksX0_ask_1 23 rfl rfl
theorem dksX0_ask_3 : cX0_ask.data.toList.drop 62 = dktX0_ask_3 := dk_seg dksX0_ask_2 15 rfl rfl
theorem dksX0_ask_4 : cX0_ask.data.toList.drop 88 = dktX0_ask_4 := dk_seg dksX0_ask_3 26 rfl rfl
theorem dksX0_ask_5 : cX0_ask.data.toList.drop 111 = dktX0_ask_5 := dk_seg dksX0_ask_4 23 rfl rfl
theorem dksX0_ask_6 : cX0_ask.data.toList.drop 135 = dktX0_ask_6 := dk_seg dksX0_ask_5 24 rfl rfl
theorem dX0_ask_0 : decode cX0_ask 0 = .ok (.aload_n 0, 1) := dk_42 (dk_at dksX0_ask_0 0 rfl rfl)
theorem dX0_ask_1 : decode cX0_ask 1 = .ok (.iload_n 1, 1) := dk_27 (dk_at dksX0_ask_0 1 rfl rfl)
theorem dX0_ask_2 : decode cX0_ask 2 = .ok (.invokevirtual 282, 3) := dk_182 1 26 (dk_at dksX0_ask_0 2 rfl rfl)
theorem dX0_ask_5 : decode cX0_ask 5 = .ok (.ifCond .eq 15, 3) := dk_153 0 15 (dk_at dksX0_ask_0 5 rfl rfl)
theorem dX0_ask_8 : decode cX0_ask 8 = .ok (.iload_n 2, 1) := dk_28 (dk_at dksX0_ask_0 8 rfl rfl)
theorem dX0_ask_9 : decode cX0_ask 9 = .ok (.i2l, 1) := dk_133 (dk_at dksX0_ask_0 9 rfl rfl)
theorem dX0_ask_10 : decode cX0_ask 10 = .ok (.lconst 0, 1) := dk_9 (dk_at dksX0_ask_0 10 rfl rfl)
theorem dX0_ask_11 : decode cX0_ask 11 = .ok (.ldc2_w 299, 3) := dk_20 1 43 (dk_at dksX0_ask_0 11 rfl rfl)
theorem dX0_ask_14 : decode cX0_ask 14 = .ok (.invokestatic 109, 3) := dk_184 0 109 (dk_at dksX0_ask_0 14 rfl rfl)
theorem dX0_ask_17 : decode cX0_ask 17 = .ok (.ifCond .ne 11, 3) := dk_154 0 11 (dk_at dksX0_ask_0 17 rfl rfl)
theorem dX0_ask_20 : decode cX0_ask 20 = .ok (.aload_n 0, 1) := dk_42 (dk_at dksX0_ask_0 20 rfl rfl)
theorem dX0_ask_21 : decode cX0_ask 21 = .ok (.sipush (-1001), 3) := dk_17 252 23 (dk_at dksX0_ask_0 21 rfl rfl)
theorem dX0_ask_24 : decode cX0_ask 24 = .ok (.invokevirtual 124, 3) := dk_182 0 124 (dk_at dksX0_ask_1 0 rfl rfl)
theorem dX0_ask_27 : decode cX0_ask 27 = .ok (.ireturn, 1) := dk_172 (dk_at dksX0_ask_1 3 rfl rfl)
theorem dX0_ask_28 : decode cX0_ask 28 = .ok (.iload_n 2, 1) := dk_28 (dk_at dksX0_ask_1 4 rfl rfl)
theorem dX0_ask_29 : decode cX0_ask 29 = .ok (.ifCond .ne 32, 3) := dk_154 0 32 (dk_at dksX0_ask_1 5 rfl rfl)
theorem dX0_ask_32 : decode cX0_ask 32 = .ok (.aload_n 0, 1) := dk_42 (dk_at dksX0_ask_1 8 rfl rfl)
theorem dX0_ask_33 : decode cX0_ask 33 = .ok (.getfield 64, 3) := dk_180 0 64 (dk_at dksX0_ask_1 9 rfl rfl)
theorem dX0_ask_36 : decode cX0_ask 36 = .ok (.getfield 301, 3) := dk_180 1 45 (dk_at dksX0_ask_1 12 rfl rfl)
theorem dX0_ask_39 : decode cX0_ask 39 = .ok (.ifCond .eq 14, 3) := dk_153 0 14 (dk_at dksX0_ask_1 15 rfl rfl)
theorem dX0_ask_42 : decode cX0_ask 42 = .ok (.iload_n 1, 1) := dk_27 (dk_at dksX0_ask_1 18 rfl rfl)
theorem dX0_ask_43 : decode cX0_ask 43 = .ok (.aload_n 0, 1) := dk_42 (dk_at dksX0_ask_1 19 rfl rfl)
theorem dX0_ask_44 : decode cX0_ask 44 = .ok (.getfield 64, 3) := dk_180 0 64 (dk_at dksX0_ask_1 20 rfl rfl)
theorem dX0_ask_47 : decode cX0_ask 47 = .ok (.getfield 305, 3) := dk_180 1 49 (dk_at dksX0_ask_2 0 rfl rfl)
theorem dX0_ask_50 : decode cX0_ask 50 = .ok (.if_icmp .lt 11, 3) := dk_161 0 11 (dk_at dksX0_ask_2 3 rfl rfl)
theorem dX0_ask_53 : decode cX0_ask 53 = .ok (.aload_n 0, 1) := dk_42 (dk_at dksX0_ask_2 6 rfl rfl)
theorem dX0_ask_54 : decode cX0_ask 54 = .ok (.sipush (-1002), 3) := dk_17 252 22 (dk_at dksX0_ask_2 7 rfl rfl)
theorem dX0_ask_57 : decode cX0_ask 57 = .ok (.invokevirtual 124, 3) := dk_182 0 124 (dk_at dksX0_ask_2 10 rfl rfl)
theorem dX0_ask_60 : decode cX0_ask 60 = .ok (.ireturn, 1) := dk_172 (dk_at dksX0_ask_2 13 rfl rfl)
theorem dX0_ask_61 : decode cX0_ask 61 = .ok (.iload_n 2, 1) := dk_28 (dk_at dksX0_ask_2 14 rfl rfl)
theorem dX0_ask_62 : decode cX0_ask 62 = .ok (.tableswitch 68 0 2 #[26, 48, 58], 26) := by decide +kernel
theorem dX0_ask_88 : decode cX0_ask 88 = .ok (.aload_n 0, 1) := dk_42 (dk_at dksX0_ask_4 0 rfl rfl)
theorem dX0_ask_89 : decode cX0_ask 89 = .ok (.getfield 45, 3) := dk_180 0 45 (dk_at dksX0_ask_4 1 rfl rfl)
theorem dX0_ask_92 : decode cX0_ask 92 = .ok (.iload_n 1, 1) := dk_27 (dk_at dksX0_ask_4 4 rfl rfl)
theorem dX0_ask_93 : decode cX0_ask 93 = .ok (.aaload, 1) := dk_50 (dk_at dksX0_ask_4 5 rfl rfl)
theorem dX0_ask_94 : decode cX0_ask 94 = .ok (.aload_n 0, 1) := dk_42 (dk_at dksX0_ask_4 6 rfl rfl)
theorem dX0_ask_95 : decode cX0_ask 95 = .ok (.getfield 64, 3) := dk_180 0 64 (dk_at dksX0_ask_4 7 rfl rfl)
theorem dX0_ask_98 : decode cX0_ask 98 = .ok (.invokevirtual 306, 3) := dk_182 1 50 (dk_at dksX0_ask_4 10 rfl rfl)
theorem dX0_ask_101 : decode cX0_ask 101 = .ok (.ifCond .eq 7, 3) := dk_153 0 7 (dk_at dksX0_ask_4 13 rfl rfl)
theorem dX0_ask_104 : decode cX0_ask 104 = .ok (.iconst 1, 1) := dk_4 (dk_at dksX0_ask_4 16 rfl rfl)
theorem dX0_ask_105 : decode cX0_ask 105 = .ok (.goto 4, 3) := dk_167 0 4 (dk_at dksX0_ask_4 17 rfl rfl)
theorem dX0_ask_108 : decode cX0_ask 108 = .ok (.iconst 0, 1) := dk_3 (dk_at dksX0_ask_4 20 rfl rfl)
theorem dX0_ask_109 : decode cX0_ask 109 = .ok (.ireturn, 1) := dk_172 (dk_at dksX0_ask_4 21 rfl rfl)
theorem dX0_ask_110 : decode cX0_ask 110 = .ok (.aload_n 0, 1) := dk_42 (dk_at dksX0_ask_4 22 rfl rfl)
theorem dX0_ask_111 : decode cX0_ask 111 = .ok (.getfield 45, 3) := dk_180 0 45 (dk_at dksX0_ask_5 0 rfl rfl)
theorem dX0_ask_114 : decode cX0_ask 114 = .ok (.iload_n 1, 1) := dk_27 (dk_at dksX0_ask_5 3 rfl rfl)
theorem dX0_ask_115 : decode cX0_ask 115 = .ok (.aaload, 1) := dk_50 (dk_at dksX0_ask_5 4 rfl rfl)
theorem dX0_ask_116 : decode cX0_ask 116 = .ok (.invokevirtual 310, 3) := dk_182 1 54 (dk_at dksX0_ask_5 5 rfl rfl)
theorem dX0_ask_119 : decode cX0_ask 119 = .ok (.ireturn, 1) := dk_172 (dk_at dksX0_ask_5 8 rfl rfl)
theorem dX0_ask_120 : decode cX0_ask 120 = .ok (.aload_n 0, 1) := dk_42 (dk_at dksX0_ask_5 9 rfl rfl)
theorem dX0_ask_121 : decode cX0_ask 121 = .ok (.getfield 45, 3) := dk_180 0 45 (dk_at dksX0_ask_5 10 rfl rfl)
theorem dX0_ask_124 : decode cX0_ask 124 = .ok (.iload_n 1, 1) := dk_27 (dk_at dksX0_ask_5 13 rfl rfl)
theorem dX0_ask_125 : decode cX0_ask 125 = .ok (.aaload, 1) := dk_50 (dk_at dksX0_ask_5 14 rfl rfl)
theorem dX0_ask_126 : decode cX0_ask 126 = .ok (.invokevirtual 313, 3) := dk_182 1 57 (dk_at dksX0_ask_5 15 rfl rfl)
theorem dX0_ask_129 : decode cX0_ask 129 = .ok (.ireturn, 1) := dk_172 (dk_at dksX0_ask_5 18 rfl rfl)
theorem dX0_ask_130 : decode cX0_ask 130 = .ok (.aload_n 0, 1) := dk_42 (dk_at dksX0_ask_5 19 rfl rfl)
theorem dX0_ask_131 : decode cX0_ask 131 = .ok (.getfield 45, 3) := dk_180 0 45 (dk_at dksX0_ask_5 20 rfl rfl)
theorem dX0_ask_134 : decode cX0_ask 134 = .ok (.iload_n 1, 1) := dk_27 (dk_at dksX0_ask_5 23 rfl rfl)
theorem dX0_ask_135 : decode cX0_ask 135 = .ok (.aaload, 1) := dk_50 (dk_at dksX0_ask_6 0 rfl rfl)
theorem dX0_ask_136 : decode cX0_ask 136 = .ok (.invokevirtual 316, 3) := dk_182 1 60 (dk_at dksX0_ask_6 1 rfl rfl)
theorem dX0_ask_139 : decode cX0_ask 139 = .ok (.ireturn, 1) := dk_172 (dk_at dksX0_ask_6 4 rfl rfl)
abbrev cX0_body : ByteArray := prog_1_method_17_code
def yX0_body : MethodName := ⟨RX0, "body", "(I)V"⟩
def dkwX0_body_0 : List UInt8 := [42, 180, 0, 25, 42, 180, 0, 155, 16, 100, 112, 27, 79, 42, 89, 180, 0, 155, 4, 96, 181, 0, 155, 177]
abbrev dktX0_body_0 : List UInt8 := dkwX0_body_0 ++ []
theorem dksX0_body_0 : cX0_body.data.toList.drop 0 = dktX0_body_0 := by decide +kernel
theorem dX0_body_0 : decode cX0_body 0 = .ok (.aload_n 0, 1) := dk_42 (dk_at dksX0_body_0 0 rfl rfl)
theorem dX0_body_1 : decode cX0_body 1 = .ok (.getfield 25, 3) := dk_180 0 25 (dk_at dksX0_body_0 1 rfl rfl)
theorem dX0_body_4 : decode cX0_body 4 = .ok (.aload_n 0, 1) := dk_42 (dk_at dksX0_body_0 4 rfl rfl)
theorem dX0_body_5 : decode cX0_body 5 = .ok (.getfield 155, 3) := dk_180 0 155 (dk_at dksX0_body_0 5 rfl rfl)
theorem dX0_body_8 : decode cX0_body 8 = .ok (.bipush 100, 2) := dk_16 100 (dk_at dksX0_body_0 8 rfl rfl)
theorem dX0_body_10 : decode cX0_body 10 = .ok (.irem, 1) := dk_112 (dk_at dksX0_body_0 10 rfl rfl)
theorem dX0_body_11 : decode cX0_body 11 = .ok (.iload_n 1, 1) := dk_27 (dk_at dksX0_body_0 11 rfl rfl)
theorem dX0_body_12 : decode cX0_body 12 = .ok (.iastore, 1) := dk_79 (dk_at dksX0_body_0 12 rfl rfl)
theorem dX0_body_13 : decode cX0_body 13 = .ok (.aload_n 0, 1) := dk_42 (dk_at dksX0_body_0 13 rfl rfl)
theorem dX0_body_14 : decode cX0_body 14 = .ok (.dup, 1) := dk_89 (dk_at dksX0_body_0 14 rfl rfl)
theorem dX0_body_15 : decode cX0_body 15 = .ok (.getfield 155, 3) := dk_180 0 155 (dk_at dksX0_body_0 15 rfl rfl)
theorem dX0_body_18 : decode cX0_body 18 = .ok (.iconst 1, 1) := dk_4 (dk_at dksX0_body_0 18 rfl rfl)
theorem dX0_body_19 : decode cX0_body 19 = .ok (.iadd, 1) := dk_96 (dk_at dksX0_body_0 19 rfl rfl)
theorem dX0_body_20 : decode cX0_body 20 = .ok (.putfield 155, 3) := dk_181 0 155 (dk_at dksX0_body_0 20 rfl rfl)
theorem dX0_body_23 : decode cX0_body 23 = .ok (.return_, 1) := dk_177 (dk_at dksX0_body_0 23 rfl rfl)
abbrev cX0_print : ByteArray := prog_1_method_46_code
def yX0_print : MethodName := ⟨RX0, "print", "(I)I"⟩
def dkwX0_print_1 : List UInt8 := [180, 0, 45, 27, 50, 182, 1, 62, 42, 180, 0, 162, 172]
abbrev dktX0_print_1 : List UInt8 := dkwX0_print_1 ++ []
def dkwX0_print_0 : List UInt8 := [42, 27, 182, 1, 26, 154, 0, 11, 42, 17, 252, 23, 182, 0, 124, 172, 42, 3, 181, 0, 162, 42]
abbrev dktX0_print_0 : List UInt8 := dkwX0_print_0 ++ dktX0_print_1
theorem dksX0_print_0 : cX0_print.data.toList.drop 0 = dktX0_print_0 := by decide +kernel
theorem dksX0_print_1 : cX0_print.data.toList.drop 22 = dktX0_print_1 := dk_seg dksX0_print_0 22 rfl rfl
theorem dX0_print_0 : decode cX0_print 0 = .ok (.aload_n 0, 1) := dk_42 (dk_at dksX0_print_0 0 rfl rfl)
theorem dX0_print_1 : decode cX0_print 1 = .ok (.iload_n 1, 1) := dk_27 (dk_at dksX0_print_0 1 rfl rfl)
theorem dX0_print_2 : decode cX0_print 2 = .ok (.invokevirtual 282, 3) := dk_182 1 26 (dk_at dksX0_print_0 2 rfl rfl)
theorem dX0_print_5 : decode cX0_print 5 = .ok (.ifCond .ne 11, 3) := dk_154 0 11 (dk_at dksX0_print_0 5 rfl rfl)
theorem dX0_print_8 : decode cX0_print 8 = .ok (.aload_n 0, 1) := dk_42 (dk_at dksX0_print_0 8 rfl rfl)
theorem dX0_print_9 : decode cX0_print 9 = .ok (.sipush (-1001), 3) := dk_17 252 23 (dk_at dksX0_print_0 9 rfl rfl)
theorem dX0_print_12 : decode cX0_print 12 = .ok (.invokevirtual 124, 3) := dk_182 0 124 (dk_at dksX0_print_0 12 rfl rfl)
theorem dX0_print_15 : decode cX0_print 15 = .ok (.ireturn, 1) := dk_172 (dk_at dksX0_print_0 15 rfl rfl)
theorem dX0_print_16 : decode cX0_print 16 = .ok (.aload_n 0, 1) := dk_42 (dk_at dksX0_print_0 16 rfl rfl)
theorem dX0_print_17 : decode cX0_print 17 = .ok (.iconst 0, 1) := dk_3 (dk_at dksX0_print_0 17 rfl rfl)
theorem dX0_print_18 : decode cX0_print 18 = .ok (.putfield 162, 3) := dk_181 0 162 (dk_at dksX0_print_0 18 rfl rfl)
theorem dX0_print_21 : decode cX0_print 21 = .ok (.aload_n 0, 1) := dk_42 (dk_at dksX0_print_0 21 rfl rfl)
theorem dX0_print_22 : decode cX0_print 22 = .ok (.getfield 45, 3) := dk_180 0 45 (dk_at dksX0_print_1 0 rfl rfl)
theorem dX0_print_25 : decode cX0_print 25 = .ok (.iload_n 1, 1) := dk_27 (dk_at dksX0_print_1 3 rfl rfl)
theorem dX0_print_26 : decode cX0_print 26 = .ok (.aaload, 1) := dk_50 (dk_at dksX0_print_1 4 rfl rfl)
theorem dX0_print_27 : decode cX0_print 27 = .ok (.invokevirtual 318, 3) := dk_182 1 62 (dk_at dksX0_print_1 5 rfl rfl)
theorem dX0_print_30 : decode cX0_print 30 = .ok (.aload_n 0, 1) := dk_42 (dk_at dksX0_print_1 8 rfl rfl)
theorem dX0_print_31 : decode cX0_print 31 = .ok (.getfield 162, 3) := dk_180 0 162 (dk_at dksX0_print_1 9 rfl rfl)
theorem dX0_print_34 : decode cX0_print 34 = .ok (.ireturn, 1) := dk_172 (dk_at dksX0_print_1 12 rfl rfl)
abbrev cX0_say : ByteArray := prog_1_method_20_code
def yX0_say : MethodName := ⟨RX0, "say", "(Ljava/lang/String;)V"⟩
def dkwX0_say_1 : List UInt8 := [167, 255, 236, 177]
abbrev dktX0_say_1 : List UInt8 := dkwX0_say_1 ++ []
def dkwX0_say_0 : List UInt8 := [3, 61, 28, 43, 182, 0, 165, 162, 0, 18, 42, 43, 28, 182, 0, 171, 182, 0, 175, 132, 2, 1]
abbrev dktX0_say_0 : List UInt8 := dkwX0_say_0 ++ dktX0_say_1
theorem dksX0_say_0 : cX0_say.data.toList.drop 0 = dktX0_say_0 := by decide +kernel
theorem dksX0_say_1 : cX0_say.data.toList.drop 22 = dktX0_say_1 := dk_seg dksX0_say_0 22 rfl rfl
theorem dX0_say_0 : decode cX0_say 0 = .ok (.iconst 0, 1) := dk_3 (dk_at dksX0_say_0 0 rfl rfl)
theorem dX0_say_1 : decode cX0_say 1 = .ok (.istore_n 2, 1) := dk_61 (dk_at dksX0_say_0 1 rfl rfl)
theorem dX0_say_2 : decode cX0_say 2 = .ok (.iload_n 2, 1) := dk_28 (dk_at dksX0_say_0 2 rfl rfl)
theorem dX0_say_3 : decode cX0_say 3 = .ok (.aload_n 1, 1) := dk_43 (dk_at dksX0_say_0 3 rfl rfl)
theorem dX0_say_4 : decode cX0_say 4 = .ok (.invokevirtual 165, 3) := dk_182 0 165 (dk_at dksX0_say_0 4 rfl rfl)
theorem dX0_say_7 : decode cX0_say 7 = .ok (.if_icmp .ge 18, 3) := dk_162 0 18 (dk_at dksX0_say_0 7 rfl rfl)
theorem dX0_say_10 : decode cX0_say 10 = .ok (.aload_n 0, 1) := dk_42 (dk_at dksX0_say_0 10 rfl rfl)
theorem dX0_say_11 : decode cX0_say 11 = .ok (.aload_n 1, 1) := dk_43 (dk_at dksX0_say_0 11 rfl rfl)
theorem dX0_say_12 : decode cX0_say 12 = .ok (.iload_n 2, 1) := dk_28 (dk_at dksX0_say_0 12 rfl rfl)
theorem dX0_say_13 : decode cX0_say 13 = .ok (.invokevirtual 171, 3) := dk_182 0 171 (dk_at dksX0_say_0 13 rfl rfl)
theorem dX0_say_16 : decode cX0_say 16 = .ok (.invokevirtual 175, 3) := dk_182 0 175 (dk_at dksX0_say_0 16 rfl rfl)
theorem dX0_say_19 : decode cX0_say 19 = .ok (.iinc 2 1, 3) := dk_132 2 1 (dk_at dksX0_say_0 19 rfl rfl)
theorem dX0_say_22 : decode cX0_say 22 = .ok (.goto (-20), 3) := dk_167 255 236 (dk_at dksX0_say_1 0 rfl rfl)
theorem dX0_say_25 : decode cX0_say 25 = .ok (.return_, 1) := dk_177 (dk_at dksX0_say_1 3 rfl rfl)
abbrev cX0_say_2 : ByteArray := prog_1_method_19_code
def yX0_say_2 : MethodName := ⟨RX0, "say", "(I)V"⟩
def dkwX0_say_2_0 : List UInt8 := [42, 180, 0, 28, 42, 89, 180, 0, 162, 90, 4, 96, 181, 0, 162, 27, 145, 84, 177]
abbrev dktX0_say_2_0 : List UInt8 := dkwX0_say_2_0 ++ []
theorem dksX0_say_2_0 : cX0_say_2.data.toList.drop 0 = dktX0_say_2_0 := by decide +kernel
theorem dX0_say_2_0 : decode cX0_say_2 0 = .ok (.aload_n 0, 1) := dk_42 (dk_at dksX0_say_2_0 0 rfl rfl)
theorem dX0_say_2_1 : decode cX0_say_2 1 = .ok (.getfield 28, 3) := dk_180 0 28 (dk_at dksX0_say_2_0 1 rfl rfl)
theorem dX0_say_2_4 : decode cX0_say_2 4 = .ok (.aload_n 0, 1) := dk_42 (dk_at dksX0_say_2_0 4 rfl rfl)
theorem dX0_say_2_5 : decode cX0_say_2 5 = .ok (.dup, 1) := dk_89 (dk_at dksX0_say_2_0 5 rfl rfl)
theorem dX0_say_2_6 : decode cX0_say_2 6 = .ok (.getfield 162, 3) := dk_180 0 162 (dk_at dksX0_say_2_0 6 rfl rfl)
theorem dX0_say_2_9 : decode cX0_say_2 9 = .ok (.dup_x1, 1) := dk_90 (dk_at dksX0_say_2_0 9 rfl rfl)
theorem dX0_say_2_10 : decode cX0_say_2 10 = .ok (.iconst 1, 1) := dk_4 (dk_at dksX0_say_2_0 10 rfl rfl)
theorem dX0_say_2_11 : decode cX0_say_2 11 = .ok (.iadd, 1) := dk_96 (dk_at dksX0_say_2_0 11 rfl rfl)
theorem dX0_say_2_12 : decode cX0_say_2 12 = .ok (.putfield 162, 3) := dk_181 0 162 (dk_at dksX0_say_2_0 12 rfl rfl)
theorem dX0_say_2_15 : decode cX0_say_2 15 = .ok (.iload_n 1, 1) := dk_27 (dk_at dksX0_say_2_0 15 rfl rfl)
theorem dX0_say_2_16 : decode cX0_say_2 16 = .ok (.i2b, 1) := dk_145 (dk_at dksX0_say_2_0 16 rfl rfl)
theorem dX0_say_2_17 : decode cX0_say_2 17 = .ok (.bastore, 1) := dk_84 (dk_at dksX0_say_2_0 17 rfl rfl)
theorem dX0_say_2_18 : decode cX0_say_2 18 = .ok (.return_, 1) := dk_177 (dk_at dksX0_say_2_0 18 rfl rfl)
abbrev cX0_sayNumber : ByteArray := prog_1_method_21_code
def yX0_sayNumber : MethodName := ⟨RX0, "sayNumber", "(I)V"⟩
def dkwX0_sayNumber_2 : List UInt8 := [96, 182, 0, 175, 42, 16, 48, 28, 16, 10, 112, 96, 182, 0, 175, 177]
abbrev dktX0_sayNumber_2 : List UInt8 := dkwX0_sayNumber_2 ++ []
def dkwX0_sayNumber_1 : List UInt8 := [28, 16, 100, 108, 96, 182, 0, 175, 28, 16, 9, 164, 0, 17, 42, 16, 48, 28, 16, 10, 108, 16, 10, 112]
abbrev dktX0_sayNumber_1 : List UInt8 := dkwX0_sayNumber_1 ++ dktX0_sayNumber_2
def dkwX0_sayNumber_0 : List UInt8 := [27, 156, 0, 9, 42, 16, 45, 182, 0, 175, 27, 184, 0, 113, 61, 28, 16, 99, 164, 0, 14, 42, 16, 48]
abbrev dktX0_sayNumber_0 : List UInt8 := dkwX0_sayNumber_0 ++ dktX0_sayNumber_1
theorem dksX0_sayNumber_0 : cX0_sayNumber.data.toList.drop 0 = dktX0_sayNumber_0 := by decide +kernel
theorem dksX0_sayNumber_1 : cX0_sayNumber.data.toList.drop 24 = dktX0_sayNumber_1 := dk_seg dksX0_sayNumber_0 24 rfl rfl
theorem dksX0_sayNumber_2 : cX0_sayNumber.data.toList.drop 48 = dktX0_sayNumber_2 := dk_seg dksX0_sayNumber_1 24 rfl rfl
theorem dX0_sayNumber_0 : decode cX0_sayNumber 0 = .ok (.iload_n 1, 1) := dk_27 (dk_at dksX0_sayNumber_0 0 rfl rfl)
theorem dX0_sayNumber_1 : decode cX0_sayNumber 1 = .ok (.ifCond .ge 9, 3) := dk_156 0 9 (dk_at dksX0_sayNumber_0 1 rfl rfl)
theorem dX0_sayNumber_4 : decode cX0_sayNumber 4 = .ok (.aload_n 0, 1) := dk_42 (dk_at dksX0_sayNumber_0 4 rfl rfl)
theorem dX0_sayNumber_5 : decode cX0_sayNumber 5 = .ok (.bipush 45, 2) := dk_16 45 (dk_at dksX0_sayNumber_0 5 rfl rfl)
theorem dX0_sayNumber_7 : decode cX0_sayNumber 7 = .ok (.invokevirtual 175, 3) := dk_182 0 175 (dk_at dksX0_sayNumber_0 7 rfl rfl)
theorem dX0_sayNumber_10 : decode cX0_sayNumber 10 = .ok (.iload_n 1, 1) := dk_27 (dk_at dksX0_sayNumber_0 10 rfl rfl)
theorem dX0_sayNumber_11 : decode cX0_sayNumber 11 = .ok (.invokestatic 113, 3) := dk_184 0 113 (dk_at dksX0_sayNumber_0 11 rfl rfl)
theorem dX0_sayNumber_14 : decode cX0_sayNumber 14 = .ok (.istore_n 2, 1) := dk_61 (dk_at dksX0_sayNumber_0 14 rfl rfl)
theorem dX0_sayNumber_15 : decode cX0_sayNumber 15 = .ok (.iload_n 2, 1) := dk_28 (dk_at dksX0_sayNumber_0 15 rfl rfl)
theorem dX0_sayNumber_16 : decode cX0_sayNumber 16 = .ok (.bipush 99, 2) := dk_16 99 (dk_at dksX0_sayNumber_0 16 rfl rfl)
theorem dX0_sayNumber_18 : decode cX0_sayNumber 18 = .ok (.if_icmp .le 14, 3) := dk_164 0 14 (dk_at dksX0_sayNumber_0 18 rfl rfl)
theorem dX0_sayNumber_21 : decode cX0_sayNumber 21 = .ok (.aload_n 0, 1) := dk_42 (dk_at dksX0_sayNumber_0 21 rfl rfl)
theorem dX0_sayNumber_22 : decode cX0_sayNumber 22 = .ok (.bipush 48, 2) := dk_16 48 (dk_at dksX0_sayNumber_0 22 rfl rfl)
theorem dX0_sayNumber_24 : decode cX0_sayNumber 24 = .ok (.iload_n 2, 1) := dk_28 (dk_at dksX0_sayNumber_1 0 rfl rfl)
theorem dX0_sayNumber_25 : decode cX0_sayNumber 25 = .ok (.bipush 100, 2) := dk_16 100 (dk_at dksX0_sayNumber_1 1 rfl rfl)
theorem dX0_sayNumber_27 : decode cX0_sayNumber 27 = .ok (.idiv, 1) := dk_108 (dk_at dksX0_sayNumber_1 3 rfl rfl)
theorem dX0_sayNumber_28 : decode cX0_sayNumber 28 = .ok (.iadd, 1) := dk_96 (dk_at dksX0_sayNumber_1 4 rfl rfl)
theorem dX0_sayNumber_29 : decode cX0_sayNumber 29 = .ok (.invokevirtual 175, 3) := dk_182 0 175 (dk_at dksX0_sayNumber_1 5 rfl rfl)
theorem dX0_sayNumber_32 : decode cX0_sayNumber 32 = .ok (.iload_n 2, 1) := dk_28 (dk_at dksX0_sayNumber_1 8 rfl rfl)
theorem dX0_sayNumber_33 : decode cX0_sayNumber 33 = .ok (.bipush 9, 2) := dk_16 9 (dk_at dksX0_sayNumber_1 9 rfl rfl)
theorem dX0_sayNumber_35 : decode cX0_sayNumber 35 = .ok (.if_icmp .le 17, 3) := dk_164 0 17 (dk_at dksX0_sayNumber_1 11 rfl rfl)
theorem dX0_sayNumber_38 : decode cX0_sayNumber 38 = .ok (.aload_n 0, 1) := dk_42 (dk_at dksX0_sayNumber_1 14 rfl rfl)
theorem dX0_sayNumber_39 : decode cX0_sayNumber 39 = .ok (.bipush 48, 2) := dk_16 48 (dk_at dksX0_sayNumber_1 15 rfl rfl)
theorem dX0_sayNumber_41 : decode cX0_sayNumber 41 = .ok (.iload_n 2, 1) := dk_28 (dk_at dksX0_sayNumber_1 17 rfl rfl)
theorem dX0_sayNumber_42 : decode cX0_sayNumber 42 = .ok (.bipush 10, 2) := dk_16 10 (dk_at dksX0_sayNumber_1 18 rfl rfl)
theorem dX0_sayNumber_44 : decode cX0_sayNumber 44 = .ok (.idiv, 1) := dk_108 (dk_at dksX0_sayNumber_1 20 rfl rfl)
theorem dX0_sayNumber_45 : decode cX0_sayNumber 45 = .ok (.bipush 10, 2) := dk_16 10 (dk_at dksX0_sayNumber_1 21 rfl rfl)
theorem dX0_sayNumber_47 : decode cX0_sayNumber 47 = .ok (.irem, 1) := dk_112 (dk_at dksX0_sayNumber_1 23 rfl rfl)
theorem dX0_sayNumber_48 : decode cX0_sayNumber 48 = .ok (.iadd, 1) := dk_96 (dk_at dksX0_sayNumber_2 0 rfl rfl)
theorem dX0_sayNumber_49 : decode cX0_sayNumber 49 = .ok (.invokevirtual 175, 3) := dk_182 0 175 (dk_at dksX0_sayNumber_2 1 rfl rfl)
theorem dX0_sayNumber_52 : decode cX0_sayNumber 52 = .ok (.aload_n 0, 1) := dk_42 (dk_at dksX0_sayNumber_2 4 rfl rfl)
theorem dX0_sayNumber_53 : decode cX0_sayNumber 53 = .ok (.bipush 48, 2) := dk_16 48 (dk_at dksX0_sayNumber_2 5 rfl rfl)
theorem dX0_sayNumber_55 : decode cX0_sayNumber 55 = .ok (.iload_n 2, 1) := dk_28 (dk_at dksX0_sayNumber_2 7 rfl rfl)
theorem dX0_sayNumber_56 : decode cX0_sayNumber 56 = .ok (.bipush 10, 2) := dk_16 10 (dk_at dksX0_sayNumber_2 8 rfl rfl)
theorem dX0_sayNumber_58 : decode cX0_sayNumber 58 = .ok (.irem, 1) := dk_112 (dk_at dksX0_sayNumber_2 10 rfl rfl)
theorem dX0_sayNumber_59 : decode cX0_sayNumber 59 = .ok (.iadd, 1) := dk_96 (dk_at dksX0_sayNumber_2 11 rfl rfl)
theorem dX0_sayNumber_60 : decode cX0_sayNumber 60 = .ok (.invokevirtual 175, 3) := dk_182 0 175 (dk_at dksX0_sayNumber_2 12 rfl rfl)
theorem dX0_sayNumber_63 : decode cX0_sayNumber 63 = .ok (.return_, 1) := dk_177 (dk_at dksX0_sayNumber_2 15 rfl rfl)
abbrev cX0_export : ByteArray := prog_1_method_47_code
def yX0_export : MethodName := ⟨RX0, "export", "()I"⟩
def dkwX0_export_3 : List UInt8 := [167, 255, 192, 42, 180, 0, 162, 172]
abbrev dktX0_export_3 : List UInt8 := dkwX0_export_3 ++ []
def dkwX0_export_2 : List UInt8 := [182, 0, 175, 132, 2, 1, 167, 255, 225, 42, 16, 48, 182, 0, 175, 42, 16, 10, 182, 0, 175, 132, 1, 1]
abbrev dktX0_export_2 : List UInt8 := dkwX0_export_2 ++ dktX0_export_3
def dkwX0_export_1 : List UInt8 := [180, 0, 40, 27, 4, 96, 46, 162, 0, 25, 42, 42, 180, 0, 37, 28, 46, 182, 1, 65, 42, 16, 32]
abbrev dktX0_export_1 : List UInt8 := dkwX0_export_1 ++ dktX0_export_2
def dkwX0_export_0 : List UInt8 := [42, 3, 181, 0, 162, 3, 60, 27, 42, 180, 0, 202, 162, 0, 62, 42, 180, 0, 40, 27, 46, 61, 28, 42]
abbrev dktX0_export_0 : List UInt8 := dkwX0_export_0 ++ dktX0_export_1
theorem dksX0_export_0 : cX0_export.data.toList.drop 0 = dktX0_export_0 := by decide +kernel
theorem dksX0_export_1 : cX0_export.data.toList.drop 24 = dktX0_export_1 := dk_seg dksX0_export_0 24 rfl rfl
theorem dksX0_export_2 : cX0_export.data.toList.drop 47 = dktX0_export_2 := dk_seg dksX0_export_1 23 rfl rfl
theorem dksX0_export_3 : cX0_export.data.toList.drop 71 = dktX0_export_3 := dk_seg dksX0_export_2 24 rfl rfl
theorem dX0_export_0 : decode cX0_export 0 = .ok (.aload_n 0, 1) := dk_42 (dk_at dksX0_export_0 0 rfl rfl)
theorem dX0_export_1 : decode cX0_export 1 = .ok (.iconst 0, 1) := dk_3 (dk_at dksX0_export_0 1 rfl rfl)
theorem dX0_export_2 : decode cX0_export 2 = .ok (.putfield 162, 3) := dk_181 0 162 (dk_at dksX0_export_0 2 rfl rfl)
theorem dX0_export_5 : decode cX0_export 5 = .ok (.iconst 0, 1) := dk_3 (dk_at dksX0_export_0 5 rfl rfl)
theorem dX0_export_6 : decode cX0_export 6 = .ok (.istore_n 1, 1) := dk_60 (dk_at dksX0_export_0 6 rfl rfl)
theorem dX0_export_7 : decode cX0_export 7 = .ok (.iload_n 1, 1) := dk_27 (dk_at dksX0_export_0 7 rfl rfl)
theorem dX0_export_8 : decode cX0_export 8 = .ok (.aload_n 0, 1) := dk_42 (dk_at dksX0_export_0 8 rfl rfl)
theorem dX0_export_9 : decode cX0_export 9 = .ok (.getfield 202, 3) := dk_180 0 202 (dk_at dksX0_export_0 9 rfl rfl)
theorem dX0_export_12 : decode cX0_export 12 = .ok (.if_icmp .ge 62, 3) := dk_162 0 62 (dk_at dksX0_export_0 12 rfl rfl)
theorem dX0_export_15 : decode cX0_export 15 = .ok (.aload_n 0, 1) := dk_42 (dk_at dksX0_export_0 15 rfl rfl)
theorem dX0_export_16 : decode cX0_export 16 = .ok (.getfield 40, 3) := dk_180 0 40 (dk_at dksX0_export_0 16 rfl rfl)
theorem dX0_export_19 : decode cX0_export 19 = .ok (.iload_n 1, 1) := dk_27 (dk_at dksX0_export_0 19 rfl rfl)
theorem dX0_export_20 : decode cX0_export 20 = .ok (.iaload, 1) := dk_46 (dk_at dksX0_export_0 20 rfl rfl)
theorem dX0_export_21 : decode cX0_export 21 = .ok (.istore_n 2, 1) := dk_61 (dk_at dksX0_export_0 21 rfl rfl)
theorem dX0_export_22 : decode cX0_export 22 = .ok (.iload_n 2, 1) := dk_28 (dk_at dksX0_export_0 22 rfl rfl)
theorem dX0_export_23 : decode cX0_export 23 = .ok (.aload_n 0, 1) := dk_42 (dk_at dksX0_export_0 23 rfl rfl)
theorem dX0_export_24 : decode cX0_export 24 = .ok (.getfield 40, 3) := dk_180 0 40 (dk_at dksX0_export_1 0 rfl rfl)
theorem dX0_export_27 : decode cX0_export 27 = .ok (.iload_n 1, 1) := dk_27 (dk_at dksX0_export_1 3 rfl rfl)
theorem dX0_export_28 : decode cX0_export 28 = .ok (.iconst 1, 1) := dk_4 (dk_at dksX0_export_1 4 rfl rfl)
theorem dX0_export_29 : decode cX0_export 29 = .ok (.iadd, 1) := dk_96 (dk_at dksX0_export_1 5 rfl rfl)
theorem dX0_export_30 : decode cX0_export 30 = .ok (.iaload, 1) := dk_46 (dk_at dksX0_export_1 6 rfl rfl)
theorem dX0_export_31 : decode cX0_export 31 = .ok (.if_icmp .ge 25, 3) := dk_162 0 25 (dk_at dksX0_export_1 7 rfl rfl)
theorem dX0_export_34 : decode cX0_export 34 = .ok (.aload_n 0, 1) := dk_42 (dk_at dksX0_export_1 10 rfl rfl)
theorem dX0_export_35 : decode cX0_export 35 = .ok (.aload_n 0, 1) := dk_42 (dk_at dksX0_export_1 11 rfl rfl)
theorem dX0_export_36 : decode cX0_export 36 = .ok (.getfield 37, 3) := dk_180 0 37 (dk_at dksX0_export_1 12 rfl rfl)
theorem dX0_export_39 : decode cX0_export 39 = .ok (.iload_n 2, 1) := dk_28 (dk_at dksX0_export_1 15 rfl rfl)
theorem dX0_export_40 : decode cX0_export 40 = .ok (.iaload, 1) := dk_46 (dk_at dksX0_export_1 16 rfl rfl)
theorem dX0_export_41 : decode cX0_export 41 = .ok (.invokevirtual 321, 3) := dk_182 1 65 (dk_at dksX0_export_1 17 rfl rfl)
theorem dX0_export_44 : decode cX0_export 44 = .ok (.aload_n 0, 1) := dk_42 (dk_at dksX0_export_1 20 rfl rfl)
theorem dX0_export_45 : decode cX0_export 45 = .ok (.bipush 32, 2) := dk_16 32 (dk_at dksX0_export_1 21 rfl rfl)
theorem dX0_export_47 : decode cX0_export 47 = .ok (.invokevirtual 175, 3) := dk_182 0 175 (dk_at dksX0_export_2 0 rfl rfl)
theorem dX0_export_50 : decode cX0_export 50 = .ok (.iinc 2 1, 3) := dk_132 2 1 (dk_at dksX0_export_2 3 rfl rfl)
theorem dX0_export_53 : decode cX0_export 53 = .ok (.goto (-31), 3) := dk_167 255 225 (dk_at dksX0_export_2 6 rfl rfl)
theorem dX0_export_56 : decode cX0_export 56 = .ok (.aload_n 0, 1) := dk_42 (dk_at dksX0_export_2 9 rfl rfl)
theorem dX0_export_57 : decode cX0_export 57 = .ok (.bipush 48, 2) := dk_16 48 (dk_at dksX0_export_2 10 rfl rfl)
theorem dX0_export_59 : decode cX0_export 59 = .ok (.invokevirtual 175, 3) := dk_182 0 175 (dk_at dksX0_export_2 12 rfl rfl)
theorem dX0_export_62 : decode cX0_export 62 = .ok (.aload_n 0, 1) := dk_42 (dk_at dksX0_export_2 15 rfl rfl)
theorem dX0_export_63 : decode cX0_export 63 = .ok (.bipush 10, 2) := dk_16 10 (dk_at dksX0_export_2 16 rfl rfl)
theorem dX0_export_65 : decode cX0_export 65 = .ok (.invokevirtual 175, 3) := dk_182 0 175 (dk_at dksX0_export_2 18 rfl rfl)
theorem dX0_export_68 : decode cX0_export 68 = .ok (.iinc 1 1, 3) := dk_132 1 1 (dk_at dksX0_export_2 21 rfl rfl)
theorem dX0_export_71 : decode cX0_export 71 = .ok (.goto (-64), 3) := dk_167 255 192 (dk_at dksX0_export_3 0 rfl rfl)
theorem dX0_export_74 : decode cX0_export 74 = .ok (.aload_n 0, 1) := dk_42 (dk_at dksX0_export_3 3 rfl rfl)
theorem dX0_export_75 : decode cX0_export 75 = .ok (.getfield 162, 3) := dk_180 0 162 (dk_at dksX0_export_3 4 rfl rfl)
theorem dX0_export_78 : decode cX0_export 78 = .ok (.ireturn, 1) := dk_172 (dk_at dksX0_export_3 7 rfl rfl)
abbrev cX0_assume : ByteArray := prog_1_method_48_code
def yX0_assume : MethodName := ⟨RX0, "assume", "(I)I"⟩
def dkwX0_assume_5 : List UInt8 := [17, 252, 12, 182, 0, 124, 172]
abbrev dktX0_assume_5 : List UInt8 := dkwX0_assume_5 ++ []
def dkwX0_assume_4 : List UInt8 := [180, 0, 106, 4, 96, 181, 0, 106, 42, 180, 1, 68, 172, 77, 42, 17, 252, 13, 182, 0, 124, 172, 77, 42]
abbrev dktX0_assume_4 : List UInt8 := dkwX0_assume_4 ++ dktX0_assume_5
def dkwX0_assume_3 : List UInt8 := [182, 0, 124, 172, 42, 180, 0, 68, 42, 89, 180, 1, 68, 90, 4, 96, 181, 1, 68, 28, 79, 42, 89]
abbrev dktX0_assume_3 : List UInt8 := dkwX0_assume_3 ++ dktX0_assume_4
def dkwX0_assume_2 : List UInt8 := [153, 0, 11, 42, 17, 252, 22, 182, 0, 124, 172, 42, 180, 1, 68, 16, 20, 160, 0, 11, 42, 17, 252, 21]
abbrev dktX0_assume_2 : List UInt8 := dkwX0_assume_2 ++ dktX0_assume_3
def dkwX0_assume_1 : List UInt8 := [180, 0, 68, 21, 4, 46, 28, 160, 0, 7, 4, 167, 0, 4, 3, 128, 62, 132, 4, 1, 167, 255, 225, 29]
abbrev dktX0_assume_1 : List UInt8 := dkwX0_assume_1 ++ dktX0_assume_2
def dkwX0_assume_0 : List UInt8 := [42, 27, 182, 0, 211, 61, 3, 62, 3, 54, 4, 21, 4, 42, 180, 1, 68, 162, 0, 28, 29, 42]
abbrev dktX0_assume_0 : List UInt8 := dkwX0_assume_0 ++ dktX0_assume_1
theorem dksX0_assume_0 : cX0_assume.data.toList.drop 0 = dktX0_assume_0 := by decide +kernel
theorem dksX0_assume_1 : cX0_assume.data.toList.drop 22 = dktX0_assume_1 := dk_seg dksX0_assume_0 22 rfl rfl
theorem dksX0_assume_2 : cX0_assume.data.toList.drop 46 = dktX0_assume_2 := dk_seg dksX0_assume_1 24 rfl rfl
theorem dksX0_assume_3 : cX0_assume.data.toList.drop 70 = dktX0_assume_3 := dk_seg dksX0_assume_2 24 rfl rfl
theorem dksX0_assume_4 : cX0_assume.data.toList.drop 93 = dktX0_assume_4 := dk_seg dksX0_assume_3 23 rfl rfl
theorem dksX0_assume_5 : cX0_assume.data.toList.drop 117 = dktX0_assume_5 := dk_seg dksX0_assume_4 24 rfl rfl
theorem dX0_assume_0 : decode cX0_assume 0 = .ok (.aload_n 0, 1) := dk_42 (dk_at dksX0_assume_0 0 rfl rfl)
theorem dX0_assume_1 : decode cX0_assume 1 = .ok (.iload_n 1, 1) := dk_27 (dk_at dksX0_assume_0 1 rfl rfl)
theorem dX0_assume_2 : decode cX0_assume 2 = .ok (.invokevirtual 211, 3) := dk_182 0 211 (dk_at dksX0_assume_0 2 rfl rfl)
theorem dX0_assume_5 : decode cX0_assume 5 = .ok (.istore_n 2, 1) := dk_61 (dk_at dksX0_assume_0 5 rfl rfl)
theorem dX0_assume_6 : decode cX0_assume 6 = .ok (.iconst 0, 1) := dk_3 (dk_at dksX0_assume_0 6 rfl rfl)
theorem dX0_assume_7 : decode cX0_assume 7 = .ok (.istore_n 3, 1) := dk_62 (dk_at dksX0_assume_0 7 rfl rfl)
theorem dX0_assume_8 : decode cX0_assume 8 = .ok (.iconst 0, 1) := dk_3 (dk_at dksX0_assume_0 8 rfl rfl)
theorem dX0_assume_9 : decode cX0_assume 9 = .ok (.istore 4, 2) := dk_54 4 (dk_at dksX0_assume_0 9 rfl rfl)
theorem dX0_assume_11 : decode cX0_assume 11 = .ok (.iload 4, 2) := dk_21 4 (dk_at dksX0_assume_0 11 rfl rfl)
theorem dX0_assume_13 : decode cX0_assume 13 = .ok (.aload_n 0, 1) := dk_42 (dk_at dksX0_assume_0 13 rfl rfl)
theorem dX0_assume_14 : decode cX0_assume 14 = .ok (.getfield 324, 3) := dk_180 1 68 (dk_at dksX0_assume_0 14 rfl rfl)
theorem dX0_assume_17 : decode cX0_assume 17 = .ok (.if_icmp .ge 28, 3) := dk_162 0 28 (dk_at dksX0_assume_0 17 rfl rfl)
theorem dX0_assume_20 : decode cX0_assume 20 = .ok (.iload_n 3, 1) := dk_29 (dk_at dksX0_assume_0 20 rfl rfl)
theorem dX0_assume_21 : decode cX0_assume 21 = .ok (.aload_n 0, 1) := dk_42 (dk_at dksX0_assume_0 21 rfl rfl)
theorem dX0_assume_22 : decode cX0_assume 22 = .ok (.getfield 68, 3) := dk_180 0 68 (dk_at dksX0_assume_1 0 rfl rfl)
theorem dX0_assume_25 : decode cX0_assume 25 = .ok (.iload 4, 2) := dk_21 4 (dk_at dksX0_assume_1 3 rfl rfl)
theorem dX0_assume_27 : decode cX0_assume 27 = .ok (.iaload, 1) := dk_46 (dk_at dksX0_assume_1 5 rfl rfl)
theorem dX0_assume_28 : decode cX0_assume 28 = .ok (.iload_n 2, 1) := dk_28 (dk_at dksX0_assume_1 6 rfl rfl)
theorem dX0_assume_29 : decode cX0_assume 29 = .ok (.if_icmp .ne 7, 3) := dk_160 0 7 (dk_at dksX0_assume_1 7 rfl rfl)
theorem dX0_assume_32 : decode cX0_assume 32 = .ok (.iconst 1, 1) := dk_4 (dk_at dksX0_assume_1 10 rfl rfl)
theorem dX0_assume_33 : decode cX0_assume 33 = .ok (.goto 4, 3) := dk_167 0 4 (dk_at dksX0_assume_1 11 rfl rfl)
theorem dX0_assume_36 : decode cX0_assume 36 = .ok (.iconst 0, 1) := dk_3 (dk_at dksX0_assume_1 14 rfl rfl)
theorem dX0_assume_37 : decode cX0_assume 37 = .ok (.ior, 1) := dk_128 (dk_at dksX0_assume_1 15 rfl rfl)
theorem dX0_assume_38 : decode cX0_assume 38 = .ok (.istore_n 3, 1) := dk_62 (dk_at dksX0_assume_1 16 rfl rfl)
theorem dX0_assume_39 : decode cX0_assume 39 = .ok (.iinc 4 1, 3) := dk_132 4 1 (dk_at dksX0_assume_1 17 rfl rfl)
theorem dX0_assume_42 : decode cX0_assume 42 = .ok (.goto (-31), 3) := dk_167 255 225 (dk_at dksX0_assume_1 20 rfl rfl)
theorem dX0_assume_45 : decode cX0_assume 45 = .ok (.iload_n 3, 1) := dk_29 (dk_at dksX0_assume_1 23 rfl rfl)
theorem dX0_assume_46 : decode cX0_assume 46 = .ok (.ifCond .eq 11, 3) := dk_153 0 11 (dk_at dksX0_assume_2 0 rfl rfl)
theorem dX0_assume_49 : decode cX0_assume 49 = .ok (.aload_n 0, 1) := dk_42 (dk_at dksX0_assume_2 3 rfl rfl)
theorem dX0_assume_50 : decode cX0_assume 50 = .ok (.sipush (-1002), 3) := dk_17 252 22 (dk_at dksX0_assume_2 4 rfl rfl)
theorem dX0_assume_53 : decode cX0_assume 53 = .ok (.invokevirtual 124, 3) := dk_182 0 124 (dk_at dksX0_assume_2 7 rfl rfl)
theorem dX0_assume_56 : decode cX0_assume 56 = .ok (.ireturn, 1) := dk_172 (dk_at dksX0_assume_2 10 rfl rfl)
theorem dX0_assume_57 : decode cX0_assume 57 = .ok (.aload_n 0, 1) := dk_42 (dk_at dksX0_assume_2 11 rfl rfl)
theorem dX0_assume_58 : decode cX0_assume 58 = .ok (.getfield 324, 3) := dk_180 1 68 (dk_at dksX0_assume_2 12 rfl rfl)
theorem dX0_assume_61 : decode cX0_assume 61 = .ok (.bipush 20, 2) := dk_16 20 (dk_at dksX0_assume_2 15 rfl rfl)
theorem dX0_assume_63 : decode cX0_assume 63 = .ok (.if_icmp .ne 11, 3) := dk_160 0 11 (dk_at dksX0_assume_2 17 rfl rfl)
theorem dX0_assume_66 : decode cX0_assume 66 = .ok (.aload_n 0, 1) := dk_42 (dk_at dksX0_assume_2 20 rfl rfl)
theorem dX0_assume_67 : decode cX0_assume 67 = .ok (.sipush (-1003), 3) := dk_17 252 21 (dk_at dksX0_assume_2 21 rfl rfl)
theorem dX0_assume_70 : decode cX0_assume 70 = .ok (.invokevirtual 124, 3) := dk_182 0 124 (dk_at dksX0_assume_3 0 rfl rfl)
theorem dX0_assume_73 : decode cX0_assume 73 = .ok (.ireturn, 1) := dk_172 (dk_at dksX0_assume_3 3 rfl rfl)
theorem dX0_assume_74 : decode cX0_assume 74 = .ok (.aload_n 0, 1) := dk_42 (dk_at dksX0_assume_3 4 rfl rfl)
theorem dX0_assume_75 : decode cX0_assume 75 = .ok (.getfield 68, 3) := dk_180 0 68 (dk_at dksX0_assume_3 5 rfl rfl)
theorem dX0_assume_78 : decode cX0_assume 78 = .ok (.aload_n 0, 1) := dk_42 (dk_at dksX0_assume_3 8 rfl rfl)
theorem dX0_assume_79 : decode cX0_assume 79 = .ok (.dup, 1) := dk_89 (dk_at dksX0_assume_3 9 rfl rfl)
theorem dX0_assume_80 : decode cX0_assume 80 = .ok (.getfield 324, 3) := dk_180 1 68 (dk_at dksX0_assume_3 10 rfl rfl)
theorem dX0_assume_83 : decode cX0_assume 83 = .ok (.dup_x1, 1) := dk_90 (dk_at dksX0_assume_3 13 rfl rfl)
theorem dX0_assume_84 : decode cX0_assume 84 = .ok (.iconst 1, 1) := dk_4 (dk_at dksX0_assume_3 14 rfl rfl)
theorem dX0_assume_85 : decode cX0_assume 85 = .ok (.iadd, 1) := dk_96 (dk_at dksX0_assume_3 15 rfl rfl)
theorem dX0_assume_86 : decode cX0_assume 86 = .ok (.putfield 324, 3) := dk_181 1 68 (dk_at dksX0_assume_3 16 rfl rfl)
theorem dX0_assume_89 : decode cX0_assume 89 = .ok (.iload_n 2, 1) := dk_28 (dk_at dksX0_assume_3 19 rfl rfl)
theorem dX0_assume_90 : decode cX0_assume 90 = .ok (.iastore, 1) := dk_79 (dk_at dksX0_assume_3 20 rfl rfl)
theorem dX0_assume_91 : decode cX0_assume 91 = .ok (.aload_n 0, 1) := dk_42 (dk_at dksX0_assume_3 21 rfl rfl)
theorem dX0_assume_92 : decode cX0_assume 92 = .ok (.dup, 1) := dk_89 (dk_at dksX0_assume_3 22 rfl rfl)
theorem dX0_assume_93 : decode cX0_assume 93 = .ok (.getfield 106, 3) := dk_180 0 106 (dk_at dksX0_assume_4 0 rfl rfl)
theorem dX0_assume_96 : decode cX0_assume 96 = .ok (.iconst 1, 1) := dk_4 (dk_at dksX0_assume_4 3 rfl rfl)
theorem dX0_assume_97 : decode cX0_assume 97 = .ok (.iadd, 1) := dk_96 (dk_at dksX0_assume_4 4 rfl rfl)
theorem dX0_assume_98 : decode cX0_assume 98 = .ok (.putfield 106, 3) := dk_181 0 106 (dk_at dksX0_assume_4 5 rfl rfl)
theorem dX0_assume_101 : decode cX0_assume 101 = .ok (.aload_n 0, 1) := dk_42 (dk_at dksX0_assume_4 8 rfl rfl)
theorem dX0_assume_102 : decode cX0_assume 102 = .ok (.getfield 324, 3) := dk_180 1 68 (dk_at dksX0_assume_4 9 rfl rfl)
theorem dX0_assume_105 : decode cX0_assume 105 = .ok (.ireturn, 1) := dk_172 (dk_at dksX0_assume_4 12 rfl rfl)
theorem dX0_assume_106 : decode cX0_assume 106 = .ok (.astore_n 2, 1) := dk_77 (dk_at dksX0_assume_4 13 rfl rfl)
theorem dX0_assume_107 : decode cX0_assume 107 = .ok (.aload_n 0, 1) := dk_42 (dk_at dksX0_assume_4 14 rfl rfl)
theorem dX0_assume_108 : decode cX0_assume 108 = .ok (.sipush (-1011), 3) := dk_17 252 13 (dk_at dksX0_assume_4 15 rfl rfl)
theorem dX0_assume_111 : decode cX0_assume 111 = .ok (.invokevirtual 124, 3) := dk_182 0 124 (dk_at dksX0_assume_4 18 rfl rfl)
theorem dX0_assume_114 : decode cX0_assume 114 = .ok (.ireturn, 1) := dk_172 (dk_at dksX0_assume_4 21 rfl rfl)
theorem dX0_assume_115 : decode cX0_assume 115 = .ok (.astore_n 2, 1) := dk_77 (dk_at dksX0_assume_4 22 rfl rfl)
theorem dX0_assume_116 : decode cX0_assume 116 = .ok (.aload_n 0, 1) := dk_42 (dk_at dksX0_assume_4 23 rfl rfl)
theorem dX0_assume_117 : decode cX0_assume 117 = .ok (.sipush (-1012), 3) := dk_17 252 12 (dk_at dksX0_assume_5 0 rfl rfl)
theorem dX0_assume_120 : decode cX0_assume 120 = .ok (.invokevirtual 124, 3) := dk_182 0 124 (dk_at dksX0_assume_5 3 rfl rfl)
theorem dX0_assume_123 : decode cX0_assume 123 = .ok (.ireturn, 1) := dk_172 (dk_at dksX0_assume_5 6 rfl rfl)
abbrev cX0_free : ByteArray := prog_1_method_49_code
def yX0_free : MethodName := ⟨RX0, "free", "()I"⟩
def dkwX0_free_0 : List UInt8 := [42, 180, 1, 68, 60, 42, 3, 181, 1, 68, 42, 89, 180, 0, 106, 4, 96, 181, 0, 106, 27, 172]
abbrev dktX0_free_0 : List UInt8 := dkwX0_free_0 ++ []
theorem dksX0_free_0 : cX0_free.data.toList.drop 0 = dktX0_free_0 := by decide +kernel
theorem dX0_free_0 : decode cX0_free 0 = .ok (.aload_n 0, 1) := dk_42 (dk_at dksX0_free_0 0 rfl rfl)
theorem dX0_free_1 : decode cX0_free 1 = .ok (.getfield 324, 3) := dk_180 1 68 (dk_at dksX0_free_0 1 rfl rfl)
theorem dX0_free_4 : decode cX0_free 4 = .ok (.istore_n 1, 1) := dk_60 (dk_at dksX0_free_0 4 rfl rfl)
theorem dX0_free_5 : decode cX0_free 5 = .ok (.aload_n 0, 1) := dk_42 (dk_at dksX0_free_0 5 rfl rfl)
theorem dX0_free_6 : decode cX0_free 6 = .ok (.iconst 0, 1) := dk_3 (dk_at dksX0_free_0 6 rfl rfl)
theorem dX0_free_7 : decode cX0_free 7 = .ok (.putfield 324, 3) := dk_181 1 68 (dk_at dksX0_free_0 7 rfl rfl)
theorem dX0_free_10 : decode cX0_free 10 = .ok (.aload_n 0, 1) := dk_42 (dk_at dksX0_free_0 10 rfl rfl)
theorem dX0_free_11 : decode cX0_free 11 = .ok (.dup, 1) := dk_89 (dk_at dksX0_free_0 11 rfl rfl)
theorem dX0_free_12 : decode cX0_free 12 = .ok (.getfield 106, 3) := dk_180 0 106 (dk_at dksX0_free_0 12 rfl rfl)
theorem dX0_free_15 : decode cX0_free 15 = .ok (.iconst 1, 1) := dk_4 (dk_at dksX0_free_0 15 rfl rfl)
theorem dX0_free_16 : decode cX0_free 16 = .ok (.iadd, 1) := dk_96 (dk_at dksX0_free_0 16 rfl rfl)
theorem dX0_free_17 : decode cX0_free 17 = .ok (.putfield 106, 3) := dk_181 0 106 (dk_at dksX0_free_0 17 rfl rfl)
theorem dX0_free_20 : decode cX0_free 20 = .ok (.iload_n 1, 1) := dk_27 (dk_at dksX0_free_0 20 rfl rfl)
theorem dX0_free_21 : decode cX0_free 21 = .ok (.ireturn, 1) := dk_172 (dk_at dksX0_free_0 21 rfl rfl)
abbrev cX0_weight : ByteArray := prog_1_method_50_code
def yX0_weight : MethodName := ⟨RX0, "weight", "(II)I"⟩
def dkwX0_weight_2 : List UInt8 := [28, 181, 1, 76, 42, 89, 180, 0, 106, 4, 96, 181, 0, 106, 29, 172]
abbrev dktX0_weight_2 : List UInt8 := dkwX0_weight_2 ++ []
def dkwX0_weight_1 : List UInt8 := [182, 0, 124, 172, 42, 180, 0, 11, 27, 4, 100, 50, 180, 1, 76, 62, 42, 180, 0, 11, 27, 4, 100, 50]
abbrev dktX0_weight_1 : List UInt8 := dkwX0_weight_1 ++ dktX0_weight_2
def dkwX0_weight_0 : List UInt8 := [42, 27, 182, 1, 71, 153, 0, 15, 28, 133, 9, 20, 1, 74, 184, 0, 109, 154, 0, 11, 42, 17, 252, 23]
abbrev dktX0_weight_0 : List UInt8 := dkwX0_weight_0 ++ dktX0_weight_1
theorem dksX0_weight_0 : cX0_weight.data.toList.drop 0 = dktX0_weight_0 := by decide +kernel
theorem dksX0_weight_1 : cX0_weight.data.toList.drop 24 = dktX0_weight_1 := dk_seg dksX0_weight_0 24 rfl rfl
theorem dksX0_weight_2 : cX0_weight.data.toList.drop 48 = dktX0_weight_2 := dk_seg dksX0_weight_1 24 rfl rfl
theorem dX0_weight_0 : decode cX0_weight 0 = .ok (.aload_n 0, 1) := dk_42 (dk_at dksX0_weight_0 0 rfl rfl)
theorem dX0_weight_1 : decode cX0_weight 1 = .ok (.iload_n 1, 1) := dk_27 (dk_at dksX0_weight_0 1 rfl rfl)
theorem dX0_weight_2 : decode cX0_weight 2 = .ok (.invokevirtual 327, 3) := dk_182 1 71 (dk_at dksX0_weight_0 2 rfl rfl)
theorem dX0_weight_5 : decode cX0_weight 5 = .ok (.ifCond .eq 15, 3) := dk_153 0 15 (dk_at dksX0_weight_0 5 rfl rfl)
theorem dX0_weight_8 : decode cX0_weight 8 = .ok (.iload_n 2, 1) := dk_28 (dk_at dksX0_weight_0 8 rfl rfl)
theorem dX0_weight_9 : decode cX0_weight 9 = .ok (.i2l, 1) := dk_133 (dk_at dksX0_weight_0 9 rfl rfl)
theorem dX0_weight_10 : decode cX0_weight 10 = .ok (.lconst 0, 1) := dk_9 (dk_at dksX0_weight_0 10 rfl rfl)
theorem dX0_weight_11 : decode cX0_weight 11 = .ok (.ldc2_w 330, 3) := dk_20 1 74 (dk_at dksX0_weight_0 11 rfl rfl)
theorem dX0_weight_14 : decode cX0_weight 14 = .ok (.invokestatic 109, 3) := dk_184 0 109 (dk_at dksX0_weight_0 14 rfl rfl)
theorem dX0_weight_17 : decode cX0_weight 17 = .ok (.ifCond .ne 11, 3) := dk_154 0 11 (dk_at dksX0_weight_0 17 rfl rfl)
theorem dX0_weight_20 : decode cX0_weight 20 = .ok (.aload_n 0, 1) := dk_42 (dk_at dksX0_weight_0 20 rfl rfl)
theorem dX0_weight_21 : decode cX0_weight 21 = .ok (.sipush (-1001), 3) := dk_17 252 23 (dk_at dksX0_weight_0 21 rfl rfl)
theorem dX0_weight_24 : decode cX0_weight 24 = .ok (.invokevirtual 124, 3) := dk_182 0 124 (dk_at dksX0_weight_1 0 rfl rfl)
theorem dX0_weight_27 : decode cX0_weight 27 = .ok (.ireturn, 1) := dk_172 (dk_at dksX0_weight_1 3 rfl rfl)
theorem dX0_weight_28 : decode cX0_weight 28 = .ok (.aload_n 0, 1) := dk_42 (dk_at dksX0_weight_1 4 rfl rfl)
theorem dX0_weight_29 : decode cX0_weight 29 = .ok (.getfield 11, 3) := dk_180 0 11 (dk_at dksX0_weight_1 5 rfl rfl)
theorem dX0_weight_32 : decode cX0_weight 32 = .ok (.iload_n 1, 1) := dk_27 (dk_at dksX0_weight_1 8 rfl rfl)
theorem dX0_weight_33 : decode cX0_weight 33 = .ok (.iconst 1, 1) := dk_4 (dk_at dksX0_weight_1 9 rfl rfl)
theorem dX0_weight_34 : decode cX0_weight 34 = .ok (.isub, 1) := dk_100 (dk_at dksX0_weight_1 10 rfl rfl)
theorem dX0_weight_35 : decode cX0_weight 35 = .ok (.aaload, 1) := dk_50 (dk_at dksX0_weight_1 11 rfl rfl)
theorem dX0_weight_36 : decode cX0_weight 36 = .ok (.getfield 332, 3) := dk_180 1 76 (dk_at dksX0_weight_1 12 rfl rfl)
theorem dX0_weight_39 : decode cX0_weight 39 = .ok (.istore_n 3, 1) := dk_62 (dk_at dksX0_weight_1 15 rfl rfl)
theorem dX0_weight_40 : decode cX0_weight 40 = .ok (.aload_n 0, 1) := dk_42 (dk_at dksX0_weight_1 16 rfl rfl)
theorem dX0_weight_41 : decode cX0_weight 41 = .ok (.getfield 11, 3) := dk_180 0 11 (dk_at dksX0_weight_1 17 rfl rfl)
theorem dX0_weight_44 : decode cX0_weight 44 = .ok (.iload_n 1, 1) := dk_27 (dk_at dksX0_weight_1 20 rfl rfl)
theorem dX0_weight_45 : decode cX0_weight 45 = .ok (.iconst 1, 1) := dk_4 (dk_at dksX0_weight_1 21 rfl rfl)
theorem dX0_weight_46 : decode cX0_weight 46 = .ok (.isub, 1) := dk_100 (dk_at dksX0_weight_1 22 rfl rfl)
theorem dX0_weight_47 : decode cX0_weight 47 = .ok (.aaload, 1) := dk_50 (dk_at dksX0_weight_1 23 rfl rfl)
theorem dX0_weight_48 : decode cX0_weight 48 = .ok (.iload_n 2, 1) := dk_28 (dk_at dksX0_weight_2 0 rfl rfl)
theorem dX0_weight_49 : decode cX0_weight 49 = .ok (.putfield 332, 3) := dk_181 1 76 (dk_at dksX0_weight_2 1 rfl rfl)
theorem dX0_weight_52 : decode cX0_weight 52 = .ok (.aload_n 0, 1) := dk_42 (dk_at dksX0_weight_2 4 rfl rfl)
theorem dX0_weight_53 : decode cX0_weight 53 = .ok (.dup, 1) := dk_89 (dk_at dksX0_weight_2 5 rfl rfl)
theorem dX0_weight_54 : decode cX0_weight 54 = .ok (.getfield 106, 3) := dk_180 0 106 (dk_at dksX0_weight_2 6 rfl rfl)
theorem dX0_weight_57 : decode cX0_weight 57 = .ok (.iconst 1, 1) := dk_4 (dk_at dksX0_weight_2 9 rfl rfl)
theorem dX0_weight_58 : decode cX0_weight 58 = .ok (.iadd, 1) := dk_96 (dk_at dksX0_weight_2 10 rfl rfl)
theorem dX0_weight_59 : decode cX0_weight 59 = .ok (.putfield 106, 3) := dk_181 0 106 (dk_at dksX0_weight_2 11 rfl rfl)
theorem dX0_weight_62 : decode cX0_weight 62 = .ok (.iload_n 3, 1) := dk_29 (dk_at dksX0_weight_2 14 rfl rfl)
theorem dX0_weight_63 : decode cX0_weight 63 = .ok (.ireturn, 1) := dk_172 (dk_at dksX0_weight_2 15 rfl rfl)
abbrev cX0_isName : ByteArray := prog_1_method_5_code
def yX0_isName : MethodName := ⟨RX0, "isName", "(I)Z"⟩
def dkwX0_isName_0 : List UInt8 := [27, 133, 10, 42, 180, 0, 100, 133, 184, 0, 109, 172]
abbrev dktX0_isName_0 : List UInt8 := dkwX0_isName_0 ++ []
theorem dksX0_isName_0 : cX0_isName.data.toList.drop 0 = dktX0_isName_0 := by decide +kernel
theorem dX0_isName_0 : decode cX0_isName 0 = .ok (.iload_n 1, 1) := dk_27 (dk_at dksX0_isName_0 0 rfl rfl)
theorem dX0_isName_1 : decode cX0_isName 1 = .ok (.i2l, 1) := dk_133 (dk_at dksX0_isName_0 1 rfl rfl)
theorem dX0_isName_2 : decode cX0_isName 2 = .ok (.lconst 1, 1) := dk_10 (dk_at dksX0_isName_0 2 rfl rfl)
theorem dX0_isName_3 : decode cX0_isName 3 = .ok (.aload_n 0, 1) := dk_42 (dk_at dksX0_isName_0 3 rfl rfl)
theorem dX0_isName_4 : decode cX0_isName 4 = .ok (.getfield 100, 3) := dk_180 0 100 (dk_at dksX0_isName_0 4 rfl rfl)
theorem dX0_isName_7 : decode cX0_isName 7 = .ok (.i2l, 1) := dk_133 (dk_at dksX0_isName_0 7 rfl rfl)
theorem dX0_isName_8 : decode cX0_isName 8 = .ok (.invokestatic 109, 3) := dk_184 0 109 (dk_at dksX0_isName_0 8 rfl rfl)
theorem dX0_isName_11 : decode cX0_isName 11 = .ok (.ireturn, 1) := dk_172 (dk_at dksX0_isName_0 11 rfl rfl)
abbrev cX0_weighs : ByteArray := prog_1_method_51_code
def yX0_weighs : MethodName := ⟨RX0, "weighs", "(I)J"⟩
def dkwX0_weighs_1 : List UInt8 := [180, 1, 79, 163, 0, 15, 42, 180, 0, 54, 180, 1, 82, 27, 47, 167, 0, 4, 9, 173]
abbrev dktX0_weighs_1 : List UInt8 := dkwX0_weighs_1 ++ []
def dkwX0_weighs_0 : List UInt8 := [42, 27, 182, 1, 71, 154, 0, 12, 42, 17, 252, 23, 182, 0, 124, 133, 173, 27, 42, 180, 0, 54]
abbrev dktX0_weighs_0 : List UInt8 := dkwX0_weighs_0 ++ dktX0_weighs_1
theorem dksX0_weighs_0 : cX0_weighs.data.toList.drop 0 = dktX0_weighs_0 := by decide +kernel
theorem dksX0_weighs_1 : cX0_weighs.data.toList.drop 22 = dktX0_weighs_1 := dk_seg dksX0_weighs_0 22 rfl rfl
theorem dX0_weighs_0 : decode cX0_weighs 0 = .ok (.aload_n 0, 1) := dk_42 (dk_at dksX0_weighs_0 0 rfl rfl)
theorem dX0_weighs_1 : decode cX0_weighs 1 = .ok (.iload_n 1, 1) := dk_27 (dk_at dksX0_weighs_0 1 rfl rfl)
theorem dX0_weighs_2 : decode cX0_weighs 2 = .ok (.invokevirtual 327, 3) := dk_182 1 71 (dk_at dksX0_weighs_0 2 rfl rfl)
theorem dX0_weighs_5 : decode cX0_weighs 5 = .ok (.ifCond .ne 12, 3) := dk_154 0 12 (dk_at dksX0_weighs_0 5 rfl rfl)
theorem dX0_weighs_8 : decode cX0_weighs 8 = .ok (.aload_n 0, 1) := dk_42 (dk_at dksX0_weighs_0 8 rfl rfl)
theorem dX0_weighs_9 : decode cX0_weighs 9 = .ok (.sipush (-1001), 3) := dk_17 252 23 (dk_at dksX0_weighs_0 9 rfl rfl)
theorem dX0_weighs_12 : decode cX0_weighs 12 = .ok (.invokevirtual 124, 3) := dk_182 0 124 (dk_at dksX0_weighs_0 12 rfl rfl)
theorem dX0_weighs_15 : decode cX0_weighs 15 = .ok (.i2l, 1) := dk_133 (dk_at dksX0_weighs_0 15 rfl rfl)
theorem dX0_weighs_16 : decode cX0_weighs 16 = .ok (.lreturn, 1) := dk_173 (dk_at dksX0_weighs_0 16 rfl rfl)
theorem dX0_weighs_17 : decode cX0_weighs 17 = .ok (.iload_n 1, 1) := dk_27 (dk_at dksX0_weighs_0 17 rfl rfl)
theorem dX0_weighs_18 : decode cX0_weighs 18 = .ok (.aload_n 0, 1) := dk_42 (dk_at dksX0_weighs_0 18 rfl rfl)
theorem dX0_weighs_19 : decode cX0_weighs 19 = .ok (.getfield 54, 3) := dk_180 0 54 (dk_at dksX0_weighs_0 19 rfl rfl)
theorem dX0_weighs_22 : decode cX0_weighs 22 = .ok (.getfield 335, 3) := dk_180 1 79 (dk_at dksX0_weighs_1 0 rfl rfl)
theorem dX0_weighs_25 : decode cX0_weighs 25 = .ok (.if_icmp .gt 15, 3) := dk_163 0 15 (dk_at dksX0_weighs_1 3 rfl rfl)
theorem dX0_weighs_28 : decode cX0_weighs 28 = .ok (.aload_n 0, 1) := dk_42 (dk_at dksX0_weighs_1 6 rfl rfl)
theorem dX0_weighs_29 : decode cX0_weighs 29 = .ok (.getfield 54, 3) := dk_180 0 54 (dk_at dksX0_weighs_1 7 rfl rfl)
theorem dX0_weighs_32 : decode cX0_weighs 32 = .ok (.getfield 338, 3) := dk_180 1 82 (dk_at dksX0_weighs_1 10 rfl rfl)
theorem dX0_weighs_35 : decode cX0_weighs 35 = .ok (.iload_n 1, 1) := dk_27 (dk_at dksX0_weighs_1 13 rfl rfl)
theorem dX0_weighs_36 : decode cX0_weighs 36 = .ok (.laload, 1) := dk_47 (dk_at dksX0_weighs_1 14 rfl rfl)
theorem dX0_weighs_37 : decode cX0_weighs 37 = .ok (.goto 4, 3) := dk_167 0 4 (dk_at dksX0_weighs_1 15 rfl rfl)
theorem dX0_weighs_40 : decode cX0_weighs 40 = .ok (.lconst 0, 1) := dk_9 (dk_at dksX0_weighs_1 18 rfl rfl)
theorem dX0_weighs_41 : decode cX0_weighs 41 = .ok (.lreturn, 1) := dk_173 (dk_at dksX0_weighs_1 19 rfl rfl)
abbrev cX0_begin : ByteArray := prog_1_method_52_code
def yX0_begin : MethodName := ⟨RX0, "begin", "(I)I"⟩
def dkwX0_begin_1 : List UInt8 := [61, 42, 27, 181, 1, 88, 42, 89, 180, 0, 106, 4, 96, 181, 0, 106, 28, 172]
abbrev dktX0_begin_1 : List UInt8 := dkwX0_begin_1 ++ []
def dkwX0_begin_0 : List UInt8 := [27, 133, 9, 20, 1, 86, 184, 0, 109, 154, 0, 11, 42, 17, 252, 23, 182, 0, 124, 172, 42, 180, 1, 88]
abbrev dktX0_begin_0 : List UInt8 := dkwX0_begin_0 ++ dktX0_begin_1
theorem dksX0_begin_0 : cX0_begin.data.toList.drop 0 = dktX0_begin_0 := by decide +kernel
theorem dksX0_begin_1 : cX0_begin.data.toList.drop 24 = dktX0_begin_1 := dk_seg dksX0_begin_0 24 rfl rfl
theorem dX0_begin_0 : decode cX0_begin 0 = .ok (.iload_n 1, 1) := dk_27 (dk_at dksX0_begin_0 0 rfl rfl)
theorem dX0_begin_1 : decode cX0_begin 1 = .ok (.i2l, 1) := dk_133 (dk_at dksX0_begin_0 1 rfl rfl)
theorem dX0_begin_2 : decode cX0_begin 2 = .ok (.lconst 0, 1) := dk_9 (dk_at dksX0_begin_0 2 rfl rfl)
theorem dX0_begin_3 : decode cX0_begin 3 = .ok (.ldc2_w 342, 3) := dk_20 1 86 (dk_at dksX0_begin_0 3 rfl rfl)
theorem dX0_begin_6 : decode cX0_begin 6 = .ok (.invokestatic 109, 3) := dk_184 0 109 (dk_at dksX0_begin_0 6 rfl rfl)
theorem dX0_begin_9 : decode cX0_begin 9 = .ok (.ifCond .ne 11, 3) := dk_154 0 11 (dk_at dksX0_begin_0 9 rfl rfl)
theorem dX0_begin_12 : decode cX0_begin 12 = .ok (.aload_n 0, 1) := dk_42 (dk_at dksX0_begin_0 12 rfl rfl)
theorem dX0_begin_13 : decode cX0_begin 13 = .ok (.sipush (-1001), 3) := dk_17 252 23 (dk_at dksX0_begin_0 13 rfl rfl)
theorem dX0_begin_16 : decode cX0_begin 16 = .ok (.invokevirtual 124, 3) := dk_182 0 124 (dk_at dksX0_begin_0 16 rfl rfl)
theorem dX0_begin_19 : decode cX0_begin 19 = .ok (.ireturn, 1) := dk_172 (dk_at dksX0_begin_0 19 rfl rfl)
theorem dX0_begin_20 : decode cX0_begin 20 = .ok (.aload_n 0, 1) := dk_42 (dk_at dksX0_begin_0 20 rfl rfl)
theorem dX0_begin_21 : decode cX0_begin 21 = .ok (.getfield 344, 3) := dk_180 1 88 (dk_at dksX0_begin_0 21 rfl rfl)
theorem dX0_begin_24 : decode cX0_begin 24 = .ok (.istore_n 2, 1) := dk_61 (dk_at dksX0_begin_1 0 rfl rfl)
theorem dX0_begin_25 : decode cX0_begin 25 = .ok (.aload_n 0, 1) := dk_42 (dk_at dksX0_begin_1 1 rfl rfl)
theorem dX0_begin_26 : decode cX0_begin 26 = .ok (.iload_n 1, 1) := dk_27 (dk_at dksX0_begin_1 2 rfl rfl)
theorem dX0_begin_27 : decode cX0_begin 27 = .ok (.putfield 344, 3) := dk_181 1 88 (dk_at dksX0_begin_1 3 rfl rfl)
theorem dX0_begin_30 : decode cX0_begin 30 = .ok (.aload_n 0, 1) := dk_42 (dk_at dksX0_begin_1 6 rfl rfl)
theorem dX0_begin_31 : decode cX0_begin 31 = .ok (.dup, 1) := dk_89 (dk_at dksX0_begin_1 7 rfl rfl)
theorem dX0_begin_32 : decode cX0_begin 32 = .ok (.getfield 106, 3) := dk_180 0 106 (dk_at dksX0_begin_1 8 rfl rfl)
theorem dX0_begin_35 : decode cX0_begin 35 = .ok (.iconst 1, 1) := dk_4 (dk_at dksX0_begin_1 11 rfl rfl)
theorem dX0_begin_36 : decode cX0_begin 36 = .ok (.iadd, 1) := dk_96 (dk_at dksX0_begin_1 12 rfl rfl)
theorem dX0_begin_37 : decode cX0_begin 37 = .ok (.putfield 106, 3) := dk_181 0 106 (dk_at dksX0_begin_1 13 rfl rfl)
theorem dX0_begin_40 : decode cX0_begin 40 = .ok (.iload_n 2, 1) := dk_28 (dk_at dksX0_begin_1 16 rfl rfl)
theorem dX0_begin_41 : decode cX0_begin 41 = .ok (.ireturn, 1) := dk_172 (dk_at dksX0_begin_1 17 rfl rfl)
abbrev cX0_forget : ByteArray := prog_1_method_53_code
def yX0_forget : MethodName := ⟨RX0, "forget", "(I)I"⟩
def dkwX0_forget_1 : List UInt8 := [61, 42, 27, 181, 1, 93, 42, 89, 180, 0, 106, 4, 96, 181, 0, 106, 28, 172]
abbrev dktX0_forget_1 : List UInt8 := dkwX0_forget_1 ++ []
def dkwX0_forget_0 : List UInt8 := [27, 133, 9, 20, 1, 91, 184, 0, 109, 154, 0, 11, 42, 17, 252, 23, 182, 0, 124, 172, 42, 180, 1, 93]
abbrev dktX0_forget_0 : List UInt8 := dkwX0_forget_0 ++ dktX0_forget_1
theorem dksX0_forget_0 : cX0_forget.data.toList.drop 0 = dktX0_forget_0 := by decide +kernel
theorem dksX0_forget_1 : cX0_forget.data.toList.drop 24 = dktX0_forget_1 := dk_seg dksX0_forget_0 24 rfl rfl
theorem dX0_forget_0 : decode cX0_forget 0 = .ok (.iload_n 1, 1) := dk_27 (dk_at dksX0_forget_0 0 rfl rfl)
theorem dX0_forget_1 : decode cX0_forget 1 = .ok (.i2l, 1) := dk_133 (dk_at dksX0_forget_0 1 rfl rfl)
theorem dX0_forget_2 : decode cX0_forget 2 = .ok (.lconst 0, 1) := dk_9 (dk_at dksX0_forget_0 2 rfl rfl)
theorem dX0_forget_3 : decode cX0_forget 3 = .ok (.ldc2_w 347, 3) := dk_20 1 91 (dk_at dksX0_forget_0 3 rfl rfl)
theorem dX0_forget_6 : decode cX0_forget 6 = .ok (.invokestatic 109, 3) := dk_184 0 109 (dk_at dksX0_forget_0 6 rfl rfl)
theorem dX0_forget_9 : decode cX0_forget 9 = .ok (.ifCond .ne 11, 3) := dk_154 0 11 (dk_at dksX0_forget_0 9 rfl rfl)
theorem dX0_forget_12 : decode cX0_forget 12 = .ok (.aload_n 0, 1) := dk_42 (dk_at dksX0_forget_0 12 rfl rfl)
theorem dX0_forget_13 : decode cX0_forget 13 = .ok (.sipush (-1001), 3) := dk_17 252 23 (dk_at dksX0_forget_0 13 rfl rfl)
theorem dX0_forget_16 : decode cX0_forget 16 = .ok (.invokevirtual 124, 3) := dk_182 0 124 (dk_at dksX0_forget_0 16 rfl rfl)
theorem dX0_forget_19 : decode cX0_forget 19 = .ok (.ireturn, 1) := dk_172 (dk_at dksX0_forget_0 19 rfl rfl)
theorem dX0_forget_20 : decode cX0_forget 20 = .ok (.aload_n 0, 1) := dk_42 (dk_at dksX0_forget_0 20 rfl rfl)
theorem dX0_forget_21 : decode cX0_forget 21 = .ok (.getfield 349, 3) := dk_180 1 93 (dk_at dksX0_forget_0 21 rfl rfl)
theorem dX0_forget_24 : decode cX0_forget 24 = .ok (.istore_n 2, 1) := dk_61 (dk_at dksX0_forget_1 0 rfl rfl)
theorem dX0_forget_25 : decode cX0_forget 25 = .ok (.aload_n 0, 1) := dk_42 (dk_at dksX0_forget_1 1 rfl rfl)
theorem dX0_forget_26 : decode cX0_forget 26 = .ok (.iload_n 1, 1) := dk_27 (dk_at dksX0_forget_1 2 rfl rfl)
theorem dX0_forget_27 : decode cX0_forget 27 = .ok (.putfield 349, 3) := dk_181 1 93 (dk_at dksX0_forget_1 3 rfl rfl)
theorem dX0_forget_30 : decode cX0_forget 30 = .ok (.aload_n 0, 1) := dk_42 (dk_at dksX0_forget_1 6 rfl rfl)
theorem dX0_forget_31 : decode cX0_forget 31 = .ok (.dup, 1) := dk_89 (dk_at dksX0_forget_1 7 rfl rfl)
theorem dX0_forget_32 : decode cX0_forget 32 = .ok (.getfield 106, 3) := dk_180 0 106 (dk_at dksX0_forget_1 8 rfl rfl)
theorem dX0_forget_35 : decode cX0_forget 35 = .ok (.iconst 1, 1) := dk_4 (dk_at dksX0_forget_1 11 rfl rfl)
theorem dX0_forget_36 : decode cX0_forget 36 = .ok (.iadd, 1) := dk_96 (dk_at dksX0_forget_1 12 rfl rfl)
theorem dX0_forget_37 : decode cX0_forget 37 = .ok (.putfield 106, 3) := dk_181 0 106 (dk_at dksX0_forget_1 13 rfl rfl)
theorem dX0_forget_40 : decode cX0_forget 40 = .ok (.iload_n 2, 1) := dk_28 (dk_at dksX0_forget_1 16 rfl rfl)
theorem dX0_forget_41 : decode cX0_forget 41 = .ok (.ireturn, 1) := dk_172 (dk_at dksX0_forget_1 17 rfl rfl)
abbrev cX0_solve : ByteArray := prog_1_method_56_code
def yX0_solve : MethodName := ⟨RX0, "solve", "(I)I"⟩
def dkwX0_solve_3 : List UInt8 := [17, 252, 20, 160, 0, 7, 4, 167, 0, 4, 3, 181, 1, 126, 42, 42, 180, 0, 106, 181, 1, 129, 28, 172]
abbrev dktX0_solve_3 : List UInt8 := dkwX0_solve_3 ++ []
def dkwX0_solve_2 : List UInt8 := [180, 0, 54, 180, 1, 122, 3, 42, 180, 1, 68, 184, 0, 144, 42, 27, 182, 1, 123, 61, 42, 28]
abbrev dktX0_solve_2 : List UInt8 := dkwX0_solve_2 ++ dktX0_solve_3
def dkwX0_solve_1 : List UInt8 := [42, 3, 181, 1, 118, 42, 180, 0, 54, 42, 180, 1, 68, 181, 1, 121, 42, 180, 0, 68, 3, 42]
abbrev dktX0_solve_1 : List UInt8 := dkwX0_solve_1 ++ dktX0_solve_2
def dkwX0_solve_0 : List UInt8 := [27, 133, 10, 20, 1, 113, 184, 0, 109, 154, 0, 11, 42, 17, 252, 23, 182, 0, 124, 172, 42, 182, 1, 115]
abbrev dktX0_solve_0 : List UInt8 := dkwX0_solve_0 ++ dktX0_solve_1
theorem dksX0_solve_0 : cX0_solve.data.toList.drop 0 = dktX0_solve_0 := by decide +kernel
theorem dksX0_solve_1 : cX0_solve.data.toList.drop 24 = dktX0_solve_1 := dk_seg dksX0_solve_0 24 rfl rfl
theorem dksX0_solve_2 : cX0_solve.data.toList.drop 46 = dktX0_solve_2 := dk_seg dksX0_solve_1 22 rfl rfl
theorem dksX0_solve_3 : cX0_solve.data.toList.drop 68 = dktX0_solve_3 := dk_seg dksX0_solve_2 22 rfl rfl
theorem dX0_solve_0 : decode cX0_solve 0 = .ok (.iload_n 1, 1) := dk_27 (dk_at dksX0_solve_0 0 rfl rfl)
theorem dX0_solve_1 : decode cX0_solve 1 = .ok (.i2l, 1) := dk_133 (dk_at dksX0_solve_0 1 rfl rfl)
theorem dX0_solve_2 : decode cX0_solve 2 = .ok (.lconst 1, 1) := dk_10 (dk_at dksX0_solve_0 2 rfl rfl)
theorem dX0_solve_3 : decode cX0_solve 3 = .ok (.ldc2_w 369, 3) := dk_20 1 113 (dk_at dksX0_solve_0 3 rfl rfl)
theorem dX0_solve_6 : decode cX0_solve 6 = .ok (.invokestatic 109, 3) := dk_184 0 109 (dk_at dksX0_solve_0 6 rfl rfl)
theorem dX0_solve_9 : decode cX0_solve 9 = .ok (.ifCond .ne 11, 3) := dk_154 0 11 (dk_at dksX0_solve_0 9 rfl rfl)
theorem dX0_solve_12 : decode cX0_solve 12 = .ok (.aload_n 0, 1) := dk_42 (dk_at dksX0_solve_0 12 rfl rfl)
theorem dX0_solve_13 : decode cX0_solve 13 = .ok (.sipush (-1001), 3) := dk_17 252 23 (dk_at dksX0_solve_0 13 rfl rfl)
theorem dX0_solve_16 : decode cX0_solve 16 = .ok (.invokevirtual 124, 3) := dk_182 0 124 (dk_at dksX0_solve_0 16 rfl rfl)
theorem dX0_solve_19 : decode cX0_solve 19 = .ok (.ireturn, 1) := dk_172 (dk_at dksX0_solve_0 19 rfl rfl)
theorem dX0_solve_20 : decode cX0_solve 20 = .ok (.aload_n 0, 1) := dk_42 (dk_at dksX0_solve_0 20 rfl rfl)
theorem dX0_solve_21 : decode cX0_solve 21 = .ok (.invokevirtual 371, 3) := dk_182 1 115 (dk_at dksX0_solve_0 21 rfl rfl)
theorem dX0_solve_24 : decode cX0_solve 24 = .ok (.aload_n 0, 1) := dk_42 (dk_at dksX0_solve_1 0 rfl rfl)
theorem dX0_solve_25 : decode cX0_solve 25 = .ok (.iconst 0, 1) := dk_3 (dk_at dksX0_solve_1 1 rfl rfl)
theorem dX0_solve_26 : decode cX0_solve 26 = .ok (.putfield 374, 3) := dk_181 1 118 (dk_at dksX0_solve_1 2 rfl rfl)
theorem dX0_solve_29 : decode cX0_solve 29 = .ok (.aload_n 0, 1) := dk_42 (dk_at dksX0_solve_1 5 rfl rfl)
theorem dX0_solve_30 : decode cX0_solve 30 = .ok (.getfield 54, 3) := dk_180 0 54 (dk_at dksX0_solve_1 6 rfl rfl)
theorem dX0_solve_33 : decode cX0_solve 33 = .ok (.aload_n 0, 1) := dk_42 (dk_at dksX0_solve_1 9 rfl rfl)
theorem dX0_solve_34 : decode cX0_solve 34 = .ok (.getfield 324, 3) := dk_180 1 68 (dk_at dksX0_solve_1 10 rfl rfl)
theorem dX0_solve_37 : decode cX0_solve 37 = .ok (.putfield 377, 3) := dk_181 1 121 (dk_at dksX0_solve_1 13 rfl rfl)
theorem dX0_solve_40 : decode cX0_solve 40 = .ok (.aload_n 0, 1) := dk_42 (dk_at dksX0_solve_1 16 rfl rfl)
theorem dX0_solve_41 : decode cX0_solve 41 = .ok (.getfield 68, 3) := dk_180 0 68 (dk_at dksX0_solve_1 17 rfl rfl)
theorem dX0_solve_44 : decode cX0_solve 44 = .ok (.iconst 0, 1) := dk_3 (dk_at dksX0_solve_1 20 rfl rfl)
theorem dX0_solve_45 : decode cX0_solve 45 = .ok (.aload_n 0, 1) := dk_42 (dk_at dksX0_solve_1 21 rfl rfl)
theorem dX0_solve_46 : decode cX0_solve 46 = .ok (.getfield 54, 3) := dk_180 0 54 (dk_at dksX0_solve_2 0 rfl rfl)
theorem dX0_solve_49 : decode cX0_solve 49 = .ok (.getfield 378, 3) := dk_180 1 122 (dk_at dksX0_solve_2 3 rfl rfl)
theorem dX0_solve_52 : decode cX0_solve 52 = .ok (.iconst 0, 1) := dk_3 (dk_at dksX0_solve_2 6 rfl rfl)
theorem dX0_solve_53 : decode cX0_solve 53 = .ok (.aload_n 0, 1) := dk_42 (dk_at dksX0_solve_2 7 rfl rfl)
theorem dX0_solve_54 : decode cX0_solve 54 = .ok (.getfield 324, 3) := dk_180 1 68 (dk_at dksX0_solve_2 8 rfl rfl)
theorem dX0_solve_57 : decode cX0_solve 57 = .ok (.invokestatic 144, 3) := dk_184 0 144 (dk_at dksX0_solve_2 11 rfl rfl)
theorem dX0_solve_60 : decode cX0_solve 60 = .ok (.aload_n 0, 1) := dk_42 (dk_at dksX0_solve_2 14 rfl rfl)
theorem dX0_solve_61 : decode cX0_solve 61 = .ok (.iload_n 1, 1) := dk_27 (dk_at dksX0_solve_2 15 rfl rfl)
theorem dX0_solve_62 : decode cX0_solve 62 = .ok (.invokevirtual 379, 3) := dk_182 1 123 (dk_at dksX0_solve_2 16 rfl rfl)
theorem dX0_solve_65 : decode cX0_solve 65 = .ok (.istore_n 2, 1) := dk_61 (dk_at dksX0_solve_2 19 rfl rfl)
theorem dX0_solve_66 : decode cX0_solve 66 = .ok (.aload_n 0, 1) := dk_42 (dk_at dksX0_solve_2 20 rfl rfl)
theorem dX0_solve_67 : decode cX0_solve 67 = .ok (.iload_n 2, 1) := dk_28 (dk_at dksX0_solve_2 21 rfl rfl)
theorem dX0_solve_68 : decode cX0_solve 68 = .ok (.sipush (-1004), 3) := dk_17 252 20 (dk_at dksX0_solve_3 0 rfl rfl)
theorem dX0_solve_71 : decode cX0_solve 71 = .ok (.if_icmp .ne 7, 3) := dk_160 0 7 (dk_at dksX0_solve_3 3 rfl rfl)
theorem dX0_solve_74 : decode cX0_solve 74 = .ok (.iconst 1, 1) := dk_4 (dk_at dksX0_solve_3 6 rfl rfl)
theorem dX0_solve_75 : decode cX0_solve 75 = .ok (.goto 4, 3) := dk_167 0 4 (dk_at dksX0_solve_3 7 rfl rfl)
theorem dX0_solve_78 : decode cX0_solve 78 = .ok (.iconst 0, 1) := dk_3 (dk_at dksX0_solve_3 10 rfl rfl)
theorem dX0_solve_79 : decode cX0_solve 79 = .ok (.putfield 382, 3) := dk_181 1 126 (dk_at dksX0_solve_3 11 rfl rfl)
theorem dX0_solve_82 : decode cX0_solve 82 = .ok (.aload_n 0, 1) := dk_42 (dk_at dksX0_solve_3 14 rfl rfl)
theorem dX0_solve_83 : decode cX0_solve 83 = .ok (.aload_n 0, 1) := dk_42 (dk_at dksX0_solve_3 15 rfl rfl)
theorem dX0_solve_84 : decode cX0_solve 84 = .ok (.getfield 106, 3) := dk_180 0 106 (dk_at dksX0_solve_3 16 rfl rfl)
theorem dX0_solve_87 : decode cX0_solve 87 = .ok (.putfield 385, 3) := dk_181 1 129 (dk_at dksX0_solve_3 19 rfl rfl)
theorem dX0_solve_90 : decode cX0_solve 90 = .ok (.iload_n 2, 1) := dk_28 (dk_at dksX0_solve_3 22 rfl rfl)
theorem dX0_solve_91 : decode cX0_solve 91 = .ok (.ireturn, 1) := dk_172 (dk_at dksX0_solve_3 23 rfl rfl)
abbrev cX0_beginMain : ByteArray := prog_1_method_54_code
def yX0_beginMain : MethodName := ⟨RX0, "beginMain", "()V"⟩
def dkwX0_beginMain_1 : List UInt8 := [180, 0, 64, 42, 180, 0, 100, 181, 1, 103, 42, 180, 0, 64, 42, 180, 0, 199, 181, 1, 49, 177]
abbrev dktX0_beginMain_1 : List UInt8 := dkwX0_beginMain_1 ++ []
def dkwX0_beginMain_0 : List UInt8 := [42, 180, 0, 54, 182, 1, 96, 42, 180, 0, 54, 1, 182, 1, 99, 42, 180, 0, 64, 3, 181, 1, 45, 42]
abbrev dktX0_beginMain_0 : List UInt8 := dkwX0_beginMain_0 ++ dktX0_beginMain_1
theorem dksX0_beginMain_0 : cX0_beginMain.data.toList.drop 0 = dktX0_beginMain_0 := by decide +kernel
theorem dksX0_beginMain_1 : cX0_beginMain.data.toList.drop 24 = dktX0_beginMain_1 := dk_seg dksX0_beginMain_0 24 rfl rfl
theorem dX0_beginMain_0 : decode cX0_beginMain 0 = .ok (.aload_n 0, 1) := dk_42 (dk_at dksX0_beginMain_0 0 rfl rfl)
theorem dX0_beginMain_1 : decode cX0_beginMain 1 = .ok (.getfield 54, 3) := dk_180 0 54 (dk_at dksX0_beginMain_0 1 rfl rfl)
theorem dX0_beginMain_4 : decode cX0_beginMain 4 = .ok (.invokevirtual 352, 3) := dk_182 1 96 (dk_at dksX0_beginMain_0 4 rfl rfl)
theorem dX0_beginMain_7 : decode cX0_beginMain 7 = .ok (.aload_n 0, 1) := dk_42 (dk_at dksX0_beginMain_0 7 rfl rfl)
theorem dX0_beginMain_8 : decode cX0_beginMain 8 = .ok (.getfield 54, 3) := dk_180 0 54 (dk_at dksX0_beginMain_0 8 rfl rfl)
theorem dX0_beginMain_11 : decode cX0_beginMain 11 = .ok (.aconst_null, 1) := dk_1 (dk_at dksX0_beginMain_0 11 rfl rfl)
theorem dX0_beginMain_12 : decode cX0_beginMain 12 = .ok (.invokevirtual 355, 3) := dk_182 1 99 (dk_at dksX0_beginMain_0 12 rfl rfl)
theorem dX0_beginMain_15 : decode cX0_beginMain 15 = .ok (.aload_n 0, 1) := dk_42 (dk_at dksX0_beginMain_0 15 rfl rfl)
theorem dX0_beginMain_16 : decode cX0_beginMain 16 = .ok (.getfield 64, 3) := dk_180 0 64 (dk_at dksX0_beginMain_0 16 rfl rfl)
theorem dX0_beginMain_19 : decode cX0_beginMain 19 = .ok (.iconst 0, 1) := dk_3 (dk_at dksX0_beginMain_0 19 rfl rfl)
theorem dX0_beginMain_20 : decode cX0_beginMain 20 = .ok (.putfield 301, 3) := dk_181 1 45 (dk_at dksX0_beginMain_0 20 rfl rfl)
theorem dX0_beginMain_23 : decode cX0_beginMain 23 = .ok (.aload_n 0, 1) := dk_42 (dk_at dksX0_beginMain_0 23 rfl rfl)
theorem dX0_beginMain_24 : decode cX0_beginMain 24 = .ok (.getfield 64, 3) := dk_180 0 64 (dk_at dksX0_beginMain_1 0 rfl rfl)
theorem dX0_beginMain_27 : decode cX0_beginMain 27 = .ok (.aload_n 0, 1) := dk_42 (dk_at dksX0_beginMain_1 3 rfl rfl)
theorem dX0_beginMain_28 : decode cX0_beginMain 28 = .ok (.getfield 100, 3) := dk_180 0 100 (dk_at dksX0_beginMain_1 4 rfl rfl)
theorem dX0_beginMain_31 : decode cX0_beginMain 31 = .ok (.putfield 359, 3) := dk_181 1 103 (dk_at dksX0_beginMain_1 7 rfl rfl)
theorem dX0_beginMain_34 : decode cX0_beginMain 34 = .ok (.aload_n 0, 1) := dk_42 (dk_at dksX0_beginMain_1 10 rfl rfl)
theorem dX0_beginMain_35 : decode cX0_beginMain 35 = .ok (.getfield 64, 3) := dk_180 0 64 (dk_at dksX0_beginMain_1 11 rfl rfl)
theorem dX0_beginMain_38 : decode cX0_beginMain 38 = .ok (.aload_n 0, 1) := dk_42 (dk_at dksX0_beginMain_1 14 rfl rfl)
theorem dX0_beginMain_39 : decode cX0_beginMain 39 = .ok (.getfield 199, 3) := dk_180 0 199 (dk_at dksX0_beginMain_1 15 rfl rfl)
theorem dX0_beginMain_42 : decode cX0_beginMain 42 = .ok (.putfield 305, 3) := dk_181 1 49 (dk_at dksX0_beginMain_1 18 rfl rfl)
theorem dX0_beginMain_45 : decode cX0_beginMain 45 = .ok (.return_, 1) := dk_177 (dk_at dksX0_beginMain_1 21 rfl rfl)
abbrev cX0_searched : ByteArray := prog_1_method_55_code
def yX0_searched : MethodName := ⟨RX0, "searched", "(I)I"⟩
def dkwX0_searched_2 : List UInt8 := [46, 158, 0, 7, 4, 167, 0, 4, 3, 145, 84, 132, 3, 1, 167, 255, 218, 28, 172]
abbrev dktX0_searched_2 : List UInt8 := dkwX0_searched_2 ++ []
def dkwX0_searched_1 : List UInt8 := [29, 42, 180, 0, 100, 163, 0, 36, 42, 180, 0, 64, 180, 1, 107, 29, 42, 180, 0, 54, 180, 1, 110, 29]
abbrev dktX0_searched_1 : List UInt8 := dkwX0_searched_1 ++ dktX0_searched_2
def dkwX0_searched_0 : List UInt8 := [42, 180, 0, 54, 27, 182, 1, 104, 61, 28, 4, 160, 0, 54, 42, 180, 0, 64, 4, 181, 1, 45, 4, 62]
abbrev dktX0_searched_0 : List UInt8 := dkwX0_searched_0 ++ dktX0_searched_1
theorem dksX0_searched_0 : cX0_searched.data.toList.drop 0 = dktX0_searched_0 := by decide +kernel
theorem dksX0_searched_1 : cX0_searched.data.toList.drop 24 = dktX0_searched_1 := dk_seg dksX0_searched_0 24 rfl rfl
theorem dksX0_searched_2 : cX0_searched.data.toList.drop 48 = dktX0_searched_2 := dk_seg dksX0_searched_1 24 rfl rfl
theorem dX0_searched_0 : decode cX0_searched 0 = .ok (.aload_n 0, 1) := dk_42 (dk_at dksX0_searched_0 0 rfl rfl)
theorem dX0_searched_1 : decode cX0_searched 1 = .ok (.getfield 54, 3) := dk_180 0 54 (dk_at dksX0_searched_0 1 rfl rfl)
theorem dX0_searched_4 : decode cX0_searched 4 = .ok (.iload_n 1, 1) := dk_27 (dk_at dksX0_searched_0 4 rfl rfl)
theorem dX0_searched_5 : decode cX0_searched 5 = .ok (.invokevirtual 360, 3) := dk_182 1 104 (dk_at dksX0_searched_0 5 rfl rfl)
theorem dX0_searched_8 : decode cX0_searched 8 = .ok (.istore_n 2, 1) := dk_61 (dk_at dksX0_searched_0 8 rfl rfl)
theorem dX0_searched_9 : decode cX0_searched 9 = .ok (.iload_n 2, 1) := dk_28 (dk_at dksX0_searched_0 9 rfl rfl)
theorem dX0_searched_10 : decode cX0_searched 10 = .ok (.iconst 1, 1) := dk_4 (dk_at dksX0_searched_0 10 rfl rfl)
theorem dX0_searched_11 : decode cX0_searched 11 = .ok (.if_icmp .ne 54, 3) := dk_160 0 54 (dk_at dksX0_searched_0 11 rfl rfl)
theorem dX0_searched_14 : decode cX0_searched 14 = .ok (.aload_n 0, 1) := dk_42 (dk_at dksX0_searched_0 14 rfl rfl)
theorem dX0_searched_15 : decode cX0_searched 15 = .ok (.getfield 64, 3) := dk_180 0 64 (dk_at dksX0_searched_0 15 rfl rfl)
theorem dX0_searched_18 : decode cX0_searched 18 = .ok (.iconst 1, 1) := dk_4 (dk_at dksX0_searched_0 18 rfl rfl)
theorem dX0_searched_19 : decode cX0_searched 19 = .ok (.putfield 301, 3) := dk_181 1 45 (dk_at dksX0_searched_0 19 rfl rfl)
theorem dX0_searched_22 : decode cX0_searched 22 = .ok (.iconst 1, 1) := dk_4 (dk_at dksX0_searched_0 22 rfl rfl)
theorem dX0_searched_23 : decode cX0_searched 23 = .ok (.istore_n 3, 1) := dk_62 (dk_at dksX0_searched_0 23 rfl rfl)
theorem dX0_searched_24 : decode cX0_searched 24 = .ok (.iload_n 3, 1) := dk_29 (dk_at dksX0_searched_1 0 rfl rfl)
theorem dX0_searched_25 : decode cX0_searched 25 = .ok (.aload_n 0, 1) := dk_42 (dk_at dksX0_searched_1 1 rfl rfl)
theorem dX0_searched_26 : decode cX0_searched 26 = .ok (.getfield 100, 3) := dk_180 0 100 (dk_at dksX0_searched_1 2 rfl rfl)
theorem dX0_searched_29 : decode cX0_searched 29 = .ok (.if_icmp .gt 36, 3) := dk_163 0 36 (dk_at dksX0_searched_1 5 rfl rfl)
theorem dX0_searched_32 : decode cX0_searched 32 = .ok (.aload_n 0, 1) := dk_42 (dk_at dksX0_searched_1 8 rfl rfl)
theorem dX0_searched_33 : decode cX0_searched 33 = .ok (.getfield 64, 3) := dk_180 0 64 (dk_at dksX0_searched_1 9 rfl rfl)
theorem dX0_searched_36 : decode cX0_searched 36 = .ok (.getfield 363, 3) := dk_180 1 107 (dk_at dksX0_searched_1 12 rfl rfl)
theorem dX0_searched_39 : decode cX0_searched 39 = .ok (.iload_n 3, 1) := dk_29 (dk_at dksX0_searched_1 15 rfl rfl)
theorem dX0_searched_40 : decode cX0_searched 40 = .ok (.aload_n 0, 1) := dk_42 (dk_at dksX0_searched_1 16 rfl rfl)
theorem dX0_searched_41 : decode cX0_searched 41 = .ok (.getfield 54, 3) := dk_180 0 54 (dk_at dksX0_searched_1 17 rfl rfl)
theorem dX0_searched_44 : decode cX0_searched 44 = .ok (.getfield 366, 3) := dk_180 1 110 (dk_at dksX0_searched_1 20 rfl rfl)
theorem dX0_searched_47 : decode cX0_searched 47 = .ok (.iload_n 3, 1) := dk_29 (dk_at dksX0_searched_1 23 rfl rfl)
theorem dX0_searched_48 : decode cX0_searched 48 = .ok (.iaload, 1) := dk_46 (dk_at dksX0_searched_2 0 rfl rfl)
theorem dX0_searched_49 : decode cX0_searched 49 = .ok (.ifCond .le 7, 3) := dk_158 0 7 (dk_at dksX0_searched_2 1 rfl rfl)
theorem dX0_searched_52 : decode cX0_searched 52 = .ok (.iconst 1, 1) := dk_4 (dk_at dksX0_searched_2 4 rfl rfl)
theorem dX0_searched_53 : decode cX0_searched 53 = .ok (.goto 4, 3) := dk_167 0 4 (dk_at dksX0_searched_2 5 rfl rfl)
theorem dX0_searched_56 : decode cX0_searched 56 = .ok (.iconst 0, 1) := dk_3 (dk_at dksX0_searched_2 8 rfl rfl)
theorem dX0_searched_57 : decode cX0_searched 57 = .ok (.i2b, 1) := dk_145 (dk_at dksX0_searched_2 9 rfl rfl)
theorem dX0_searched_58 : decode cX0_searched 58 = .ok (.bastore, 1) := dk_84 (dk_at dksX0_searched_2 10 rfl rfl)
theorem dX0_searched_59 : decode cX0_searched 59 = .ok (.iinc 3 1, 3) := dk_132 3 1 (dk_at dksX0_searched_2 11 rfl rfl)
theorem dX0_searched_62 : decode cX0_searched 62 = .ok (.goto (-38), 3) := dk_167 255 218 (dk_at dksX0_searched_2 14 rfl rfl)
theorem dX0_searched_65 : decode cX0_searched 65 = .ok (.iload_n 2, 1) := dk_28 (dk_at dksX0_searched_2 17 rfl rfl)
theorem dX0_searched_66 : decode cX0_searched 66 = .ok (.ireturn, 1) := dk_172 (dk_at dksX0_searched_2 18 rfl rfl)
abbrev cX0_goOn : ByteArray := prog_1_method_57_code
def yX0_goOn : MethodName := ⟨RX0, "goOn", "(I)I"⟩
def dkwX0_goOn_2 : List UInt8 := [182, 1, 123, 61, 42, 28, 17, 252, 20, 160, 0, 7, 4, 167, 0, 4, 3, 181, 1, 126, 28, 172]
abbrev dktX0_goOn_2 : List UInt8 := dkwX0_goOn_2 ++ []
def dkwX0_goOn_1 : List UInt8 := [153, 0, 14, 42, 180, 1, 129, 42, 180, 0, 106, 159, 0, 11, 42, 17, 252, 22, 182, 0, 124, 172, 42, 27]
abbrev dktX0_goOn_1 : List UInt8 := dkwX0_goOn_1 ++ dktX0_goOn_2
def dkwX0_goOn_0 : List UInt8 := [27, 133, 10, 20, 1, 113, 184, 0, 109, 154, 0, 11, 42, 17, 252, 23, 182, 0, 124, 172, 42, 180, 1, 126]
abbrev dktX0_goOn_0 : List UInt8 := dkwX0_goOn_0 ++ dktX0_goOn_1
theorem dksX0_goOn_0 : cX0_goOn.data.toList.drop 0 = dktX0_goOn_0 := by decide +kernel
theorem dksX0_goOn_1 : cX0_goOn.data.toList.drop 24 = dktX0_goOn_1 := dk_seg dksX0_goOn_0 24 rfl rfl
theorem dksX0_goOn_2 : cX0_goOn.data.toList.drop 48 = dktX0_goOn_2 := dk_seg dksX0_goOn_1 24 rfl rfl
theorem dX0_goOn_0 : decode cX0_goOn 0 = .ok (.iload_n 1, 1) := dk_27 (dk_at dksX0_goOn_0 0 rfl rfl)
theorem dX0_goOn_1 : decode cX0_goOn 1 = .ok (.i2l, 1) := dk_133 (dk_at dksX0_goOn_0 1 rfl rfl)
theorem dX0_goOn_2 : decode cX0_goOn 2 = .ok (.lconst 1, 1) := dk_10 (dk_at dksX0_goOn_0 2 rfl rfl)
theorem dX0_goOn_3 : decode cX0_goOn 3 = .ok (.ldc2_w 369, 3) := dk_20 1 113 (dk_at dksX0_goOn_0 3 rfl rfl)
theorem dX0_goOn_6 : decode cX0_goOn 6 = .ok (.invokestatic 109, 3) := dk_184 0 109 (dk_at dksX0_goOn_0 6 rfl rfl)
theorem dX0_goOn_9 : decode cX0_goOn 9 = .ok (.ifCond .ne 11, 3) := dk_154 0 11 (dk_at dksX0_goOn_0 9 rfl rfl)
theorem dX0_goOn_12 : decode cX0_goOn 12 = .ok (.aload_n 0, 1) := dk_42 (dk_at dksX0_goOn_0 12 rfl rfl)
theorem dX0_goOn_13 : decode cX0_goOn 13 = .ok (.sipush (-1001), 3) := dk_17 252 23 (dk_at dksX0_goOn_0 13 rfl rfl)
theorem dX0_goOn_16 : decode cX0_goOn 16 = .ok (.invokevirtual 124, 3) := dk_182 0 124 (dk_at dksX0_goOn_0 16 rfl rfl)
theorem dX0_goOn_19 : decode cX0_goOn 19 = .ok (.ireturn, 1) := dk_172 (dk_at dksX0_goOn_0 19 rfl rfl)
theorem dX0_goOn_20 : decode cX0_goOn 20 = .ok (.aload_n 0, 1) := dk_42 (dk_at dksX0_goOn_0 20 rfl rfl)
theorem dX0_goOn_21 : decode cX0_goOn 21 = .ok (.getfield 382, 3) := dk_180 1 126 (dk_at dksX0_goOn_0 21 rfl rfl)
theorem dX0_goOn_24 : decode cX0_goOn 24 = .ok (.ifCond .eq 14, 3) := dk_153 0 14 (dk_at dksX0_goOn_1 0 rfl rfl)
theorem dX0_goOn_27 : decode cX0_goOn 27 = .ok (.aload_n 0, 1) := dk_42 (dk_at dksX0_goOn_1 3 rfl rfl)
theorem dX0_goOn_28 : decode cX0_goOn 28 = .ok (.getfield 385, 3) := dk_180 1 129 (dk_at dksX0_goOn_1 4 rfl rfl)
theorem dX0_goOn_31 : decode cX0_goOn 31 = .ok (.aload_n 0, 1) := dk_42 (dk_at dksX0_goOn_1 7 rfl rfl)
theorem dX0_goOn_32 : decode cX0_goOn 32 = .ok (.getfield 106, 3) := dk_180 0 106 (dk_at dksX0_goOn_1 8 rfl rfl)
theorem dX0_goOn_35 : decode cX0_goOn 35 = .ok (.if_icmp .eq 11, 3) := dk_159 0 11 (dk_at dksX0_goOn_1 11 rfl rfl)
theorem dX0_goOn_38 : decode cX0_goOn 38 = .ok (.aload_n 0, 1) := dk_42 (dk_at dksX0_goOn_1 14 rfl rfl)
theorem dX0_goOn_39 : decode cX0_goOn 39 = .ok (.sipush (-1002), 3) := dk_17 252 22 (dk_at dksX0_goOn_1 15 rfl rfl)
theorem dX0_goOn_42 : decode cX0_goOn 42 = .ok (.invokevirtual 124, 3) := dk_182 0 124 (dk_at dksX0_goOn_1 18 rfl rfl)
theorem dX0_goOn_45 : decode cX0_goOn 45 = .ok (.ireturn, 1) := dk_172 (dk_at dksX0_goOn_1 21 rfl rfl)
theorem dX0_goOn_46 : decode cX0_goOn 46 = .ok (.aload_n 0, 1) := dk_42 (dk_at dksX0_goOn_1 22 rfl rfl)
theorem dX0_goOn_47 : decode cX0_goOn 47 = .ok (.iload_n 1, 1) := dk_27 (dk_at dksX0_goOn_1 23 rfl rfl)
theorem dX0_goOn_48 : decode cX0_goOn 48 = .ok (.invokevirtual 379, 3) := dk_182 1 123 (dk_at dksX0_goOn_2 0 rfl rfl)
theorem dX0_goOn_51 : decode cX0_goOn 51 = .ok (.istore_n 2, 1) := dk_61 (dk_at dksX0_goOn_2 3 rfl rfl)
theorem dX0_goOn_52 : decode cX0_goOn 52 = .ok (.aload_n 0, 1) := dk_42 (dk_at dksX0_goOn_2 4 rfl rfl)
theorem dX0_goOn_53 : decode cX0_goOn 53 = .ok (.iload_n 2, 1) := dk_28 (dk_at dksX0_goOn_2 5 rfl rfl)
theorem dX0_goOn_54 : decode cX0_goOn 54 = .ok (.sipush (-1004), 3) := dk_17 252 20 (dk_at dksX0_goOn_2 6 rfl rfl)
theorem dX0_goOn_57 : decode cX0_goOn 57 = .ok (.if_icmp .ne 7, 3) := dk_160 0 7 (dk_at dksX0_goOn_2 9 rfl rfl)
theorem dX0_goOn_60 : decode cX0_goOn 60 = .ok (.iconst 1, 1) := dk_4 (dk_at dksX0_goOn_2 12 rfl rfl)
theorem dX0_goOn_61 : decode cX0_goOn 61 = .ok (.goto 4, 3) := dk_167 0 4 (dk_at dksX0_goOn_2 13 rfl rfl)
theorem dX0_goOn_64 : decode cX0_goOn 64 = .ok (.iconst 0, 1) := dk_3 (dk_at dksX0_goOn_2 16 rfl rfl)
theorem dX0_goOn_65 : decode cX0_goOn 65 = .ok (.putfield 382, 3) := dk_181 1 126 (dk_at dksX0_goOn_2 17 rfl rfl)
theorem dX0_goOn_68 : decode cX0_goOn 68 = .ok (.iload_n 2, 1) := dk_28 (dk_at dksX0_goOn_2 20 rfl rfl)
theorem dX0_goOn_69 : decode cX0_goOn 69 = .ok (.ireturn, 1) := dk_172 (dk_at dksX0_goOn_2 21 rfl rfl)
abbrev cX0_truth : ByteArray := prog_1_method_58_code
def yX0_truth : MethodName := ⟨RX0, "truth", "(I)I"⟩
def dkwX0_truth_2 : List UInt8 := [180, 0, 64, 180, 1, 107, 27, 51, 167, 0, 6, 17, 252, 19, 172]
abbrev dktX0_truth_2 : List UInt8 := dkwX0_truth_2 ++ []
def dkwX0_truth_1 : List UInt8 := [154, 0, 11, 42, 17, 252, 22, 182, 0, 124, 172, 27, 42, 180, 0, 64, 180, 1, 103, 163, 0, 15, 42]
abbrev dktX0_truth_1 : List UInt8 := dkwX0_truth_1 ++ dktX0_truth_2
def dkwX0_truth_0 : List UInt8 := [42, 27, 182, 1, 71, 154, 0, 11, 42, 17, 252, 23, 182, 0, 124, 172, 42, 180, 0, 64, 180, 1, 45]
abbrev dktX0_truth_0 : List UInt8 := dkwX0_truth_0 ++ dktX0_truth_1
theorem dksX0_truth_0 : cX0_truth.data.toList.drop 0 = dktX0_truth_0 := by decide +kernel
theorem dksX0_truth_1 : cX0_truth.data.toList.drop 23 = dktX0_truth_1 := dk_seg dksX0_truth_0 23 rfl rfl
theorem dksX0_truth_2 : cX0_truth.data.toList.drop 46 = dktX0_truth_2 := dk_seg dksX0_truth_1 23 rfl rfl
theorem dX0_truth_0 : decode cX0_truth 0 = .ok (.aload_n 0, 1) := dk_42 (dk_at dksX0_truth_0 0 rfl rfl)
theorem dX0_truth_1 : decode cX0_truth 1 = .ok (.iload_n 1, 1) := dk_27 (dk_at dksX0_truth_0 1 rfl rfl)
theorem dX0_truth_2 : decode cX0_truth 2 = .ok (.invokevirtual 327, 3) := dk_182 1 71 (dk_at dksX0_truth_0 2 rfl rfl)
theorem dX0_truth_5 : decode cX0_truth 5 = .ok (.ifCond .ne 11, 3) := dk_154 0 11 (dk_at dksX0_truth_0 5 rfl rfl)
theorem dX0_truth_8 : decode cX0_truth 8 = .ok (.aload_n 0, 1) := dk_42 (dk_at dksX0_truth_0 8 rfl rfl)
theorem dX0_truth_9 : decode cX0_truth 9 = .ok (.sipush (-1001), 3) := dk_17 252 23 (dk_at dksX0_truth_0 9 rfl rfl)
theorem dX0_truth_12 : decode cX0_truth 12 = .ok (.invokevirtual 124, 3) := dk_182 0 124 (dk_at dksX0_truth_0 12 rfl rfl)
theorem dX0_truth_15 : decode cX0_truth 15 = .ok (.ireturn, 1) := dk_172 (dk_at dksX0_truth_0 15 rfl rfl)
theorem dX0_truth_16 : decode cX0_truth 16 = .ok (.aload_n 0, 1) := dk_42 (dk_at dksX0_truth_0 16 rfl rfl)
theorem dX0_truth_17 : decode cX0_truth 17 = .ok (.getfield 64, 3) := dk_180 0 64 (dk_at dksX0_truth_0 17 rfl rfl)
theorem dX0_truth_20 : decode cX0_truth 20 = .ok (.getfield 301, 3) := dk_180 1 45 (dk_at dksX0_truth_0 20 rfl rfl)
theorem dX0_truth_23 : decode cX0_truth 23 = .ok (.ifCond .ne 11, 3) := dk_154 0 11 (dk_at dksX0_truth_1 0 rfl rfl)
theorem dX0_truth_26 : decode cX0_truth 26 = .ok (.aload_n 0, 1) := dk_42 (dk_at dksX0_truth_1 3 rfl rfl)
theorem dX0_truth_27 : decode cX0_truth 27 = .ok (.sipush (-1002), 3) := dk_17 252 22 (dk_at dksX0_truth_1 4 rfl rfl)
theorem dX0_truth_30 : decode cX0_truth 30 = .ok (.invokevirtual 124, 3) := dk_182 0 124 (dk_at dksX0_truth_1 7 rfl rfl)
theorem dX0_truth_33 : decode cX0_truth 33 = .ok (.ireturn, 1) := dk_172 (dk_at dksX0_truth_1 10 rfl rfl)
theorem dX0_truth_34 : decode cX0_truth 34 = .ok (.iload_n 1, 1) := dk_27 (dk_at dksX0_truth_1 11 rfl rfl)
theorem dX0_truth_35 : decode cX0_truth 35 = .ok (.aload_n 0, 1) := dk_42 (dk_at dksX0_truth_1 12 rfl rfl)
theorem dX0_truth_36 : decode cX0_truth 36 = .ok (.getfield 64, 3) := dk_180 0 64 (dk_at dksX0_truth_1 13 rfl rfl)
theorem dX0_truth_39 : decode cX0_truth 39 = .ok (.getfield 359, 3) := dk_180 1 103 (dk_at dksX0_truth_1 16 rfl rfl)
theorem dX0_truth_42 : decode cX0_truth 42 = .ok (.if_icmp .gt 15, 3) := dk_163 0 15 (dk_at dksX0_truth_1 19 rfl rfl)
theorem dX0_truth_45 : decode cX0_truth 45 = .ok (.aload_n 0, 1) := dk_42 (dk_at dksX0_truth_1 22 rfl rfl)
theorem dX0_truth_46 : decode cX0_truth 46 = .ok (.getfield 64, 3) := dk_180 0 64 (dk_at dksX0_truth_2 0 rfl rfl)
theorem dX0_truth_49 : decode cX0_truth 49 = .ok (.getfield 363, 3) := dk_180 1 107 (dk_at dksX0_truth_2 3 rfl rfl)
theorem dX0_truth_52 : decode cX0_truth 52 = .ok (.iload_n 1, 1) := dk_27 (dk_at dksX0_truth_2 6 rfl rfl)
theorem dX0_truth_53 : decode cX0_truth 53 = .ok (.baload, 1) := dk_51 (dk_at dksX0_truth_2 7 rfl rfl)
theorem dX0_truth_54 : decode cX0_truth 54 = .ok (.goto 6, 3) := dk_167 0 6 (dk_at dksX0_truth_2 8 rfl rfl)
theorem dX0_truth_57 : decode cX0_truth 57 = .ok (.sipush (-1005), 3) := dk_17 252 19 (dk_at dksX0_truth_2 11 rfl rfl)
theorem dX0_truth_60 : decode cX0_truth 60 = .ok (.ireturn, 1) := dk_172 (dk_at dksX0_truth_2 14 rfl rfl)
abbrev cX0_solved : ByteArray := prog_1_method_59_code
def yX0_solved : MethodName := ⟨RX0, "solved", "(I)I"⟩
def dkwX0_solved_5 : List UInt8 := [42, 180, 0, 54, 180, 1, 159, 172, 42, 17, 252, 23, 182, 0, 124, 172]
abbrev dktX0_solved_5 : List UInt8 := dkwX0_solved_5 ++ []
def dkwX0_solved_4 : List UInt8 := [42, 180, 0, 54, 180, 1, 150, 172, 42, 180, 0, 54, 180, 1, 153, 172, 42, 180, 0, 54, 180, 1, 156, 172]
abbrev dktX0_solved_4 : List UInt8 := dkwX0_solved_4 ++ dktX0_solved_5
def dkwX0_solved_3 : List UInt8 := [42, 180, 0, 54, 180, 1, 141, 172, 42, 180, 0, 54, 180, 1, 144, 172, 42, 180, 0, 54, 180, 1, 147, 172]
abbrev dktX0_solved_3 : List UInt8 := dkwX0_solved_3 ++ dktX0_solved_4
def dkwX0_solved_2 : List UInt8 := [42, 180, 0, 54, 180, 1, 132, 172, 42, 180, 0, 54, 180, 1, 135, 172, 42, 180, 0, 54, 180, 1, 138, 172]
abbrev dktX0_solved_2 : List UInt8 := dkwX0_solved_2 ++ dktX0_solved_3
def dkwX0_solved_1 : List UInt8 := [170, 0, 0, 0, 0, 0, 135, 0, 0, 0, 0, 0, 0, 0, 9, 0, 0, 0, 55, 0, 0, 0, 63, 0, 0, 0, 71, 0, 0, 0, 79, 0, 0, 0, 87, 0, 0, 0, 95, 0, 0, 0, 103, 0, 0, 0, 111, 0, 0, 0, 119, 0, 0, 0, 127]
abbrev dktX0_solved_1 : List UInt8 := dkwX0_solved_1 ++ dktX0_solved_2
def dkwX0_solved_0 : List UInt8 := [27]
abbrev dktX0_solved_0 : List UInt8 := dkwX0_solved_0 ++ dktX0_solved_1
theorem dksX0_solved_0 : cX0_solved.data.toList.drop 0 = dktX0_solved_0 := by decide +kernel
theorem dksX0_solved_1 : cX0_solved.data.toList.drop 1 = dktX0_solved_1 := dk_seg dksX0_solved_0 1 rfl rfl
theorem dksX0_solved_2 : cX0_solved.data.toList.drop 56 = dktX0_solved_2 := dk_seg dksX0_solved_1 55 rfl rfl
theorem dksX0_solved_3 : cX0_solved.data.toList.drop 80 = dktX0_solved_3 := dk_seg dksX0_solved_2 24 rfl rfl
theorem dksX0_solved_4 : cX0_solved.data.toList.drop 104 = dktX0_solved_4 := dk_seg dksX0_solved_3 24 rfl rfl
theorem dksX0_solved_5 : cX0_solved.data.toList.drop 128 = dktX0_solved_5 := dk_seg dksX0_solved_4 24 rfl rfl
theorem dX0_solved_0 : decode cX0_solved 0 = .ok (.iload_n 1, 1) := dk_27 (dk_at dksX0_solved_0 0 rfl rfl)
theorem dX0_solved_1 : decode cX0_solved 1 = .ok (.tableswitch 135 0 9 #[55, 63, 71, 79, 87, 95, 103, 111, 119, 127], 55) := by decide +kernel
theorem dX0_solved_56 : decode cX0_solved 56 = .ok (.aload_n 0, 1) := dk_42 (dk_at dksX0_solved_2 0 rfl rfl)
theorem dX0_solved_57 : decode cX0_solved 57 = .ok (.getfield 54, 3) := dk_180 0 54 (dk_at dksX0_solved_2 1 rfl rfl)
theorem dX0_solved_60 : decode cX0_solved 60 = .ok (.getfield 388, 3) := dk_180 1 132 (dk_at dksX0_solved_2 4 rfl rfl)
theorem dX0_solved_63 : decode cX0_solved 63 = .ok (.ireturn, 1) := dk_172 (dk_at dksX0_solved_2 7 rfl rfl)
theorem dX0_solved_64 : decode cX0_solved 64 = .ok (.aload_n 0, 1) := dk_42 (dk_at dksX0_solved_2 8 rfl rfl)
theorem dX0_solved_65 : decode cX0_solved 65 = .ok (.getfield 54, 3) := dk_180 0 54 (dk_at dksX0_solved_2 9 rfl rfl)
theorem dX0_solved_68 : decode cX0_solved 68 = .ok (.getfield 391, 3) := dk_180 1 135 (dk_at dksX0_solved_2 12 rfl rfl)
theorem dX0_solved_71 : decode cX0_solved 71 = .ok (.ireturn, 1) := dk_172 (dk_at dksX0_solved_2 15 rfl rfl)
theorem dX0_solved_72 : decode cX0_solved 72 = .ok (.aload_n 0, 1) := dk_42 (dk_at dksX0_solved_2 16 rfl rfl)
theorem dX0_solved_73 : decode cX0_solved 73 = .ok (.getfield 54, 3) := dk_180 0 54 (dk_at dksX0_solved_2 17 rfl rfl)
theorem dX0_solved_76 : decode cX0_solved 76 = .ok (.getfield 394, 3) := dk_180 1 138 (dk_at dksX0_solved_2 20 rfl rfl)
theorem dX0_solved_79 : decode cX0_solved 79 = .ok (.ireturn, 1) := dk_172 (dk_at dksX0_solved_2 23 rfl rfl)
theorem dX0_solved_80 : decode cX0_solved 80 = .ok (.aload_n 0, 1) := dk_42 (dk_at dksX0_solved_3 0 rfl rfl)
theorem dX0_solved_81 : decode cX0_solved 81 = .ok (.getfield 54, 3) := dk_180 0 54 (dk_at dksX0_solved_3 1 rfl rfl)
theorem dX0_solved_84 : decode cX0_solved 84 = .ok (.getfield 397, 3) := dk_180 1 141 (dk_at dksX0_solved_3 4 rfl rfl)
theorem dX0_solved_87 : decode cX0_solved 87 = .ok (.ireturn, 1) := dk_172 (dk_at dksX0_solved_3 7 rfl rfl)
theorem dX0_solved_88 : decode cX0_solved 88 = .ok (.aload_n 0, 1) := dk_42 (dk_at dksX0_solved_3 8 rfl rfl)
theorem dX0_solved_89 : decode cX0_solved 89 = .ok (.getfield 54, 3) := dk_180 0 54 (dk_at dksX0_solved_3 9 rfl rfl)
theorem dX0_solved_92 : decode cX0_solved 92 = .ok (.getfield 400, 3) := dk_180 1 144 (dk_at dksX0_solved_3 12 rfl rfl)
theorem dX0_solved_95 : decode cX0_solved 95 = .ok (.ireturn, 1) := dk_172 (dk_at dksX0_solved_3 15 rfl rfl)
theorem dX0_solved_96 : decode cX0_solved 96 = .ok (.aload_n 0, 1) := dk_42 (dk_at dksX0_solved_3 16 rfl rfl)
theorem dX0_solved_97 : decode cX0_solved 97 = .ok (.getfield 54, 3) := dk_180 0 54 (dk_at dksX0_solved_3 17 rfl rfl)
theorem dX0_solved_100 : decode cX0_solved 100 = .ok (.getfield 403, 3) := dk_180 1 147 (dk_at dksX0_solved_3 20 rfl rfl)
theorem dX0_solved_103 : decode cX0_solved 103 = .ok (.ireturn, 1) := dk_172 (dk_at dksX0_solved_3 23 rfl rfl)
theorem dX0_solved_104 : decode cX0_solved 104 = .ok (.aload_n 0, 1) := dk_42 (dk_at dksX0_solved_4 0 rfl rfl)
theorem dX0_solved_105 : decode cX0_solved 105 = .ok (.getfield 54, 3) := dk_180 0 54 (dk_at dksX0_solved_4 1 rfl rfl)
theorem dX0_solved_108 : decode cX0_solved 108 = .ok (.getfield 406, 3) := dk_180 1 150 (dk_at dksX0_solved_4 4 rfl rfl)
theorem dX0_solved_111 : decode cX0_solved 111 = .ok (.ireturn, 1) := dk_172 (dk_at dksX0_solved_4 7 rfl rfl)
theorem dX0_solved_112 : decode cX0_solved 112 = .ok (.aload_n 0, 1) := dk_42 (dk_at dksX0_solved_4 8 rfl rfl)
theorem dX0_solved_113 : decode cX0_solved 113 = .ok (.getfield 54, 3) := dk_180 0 54 (dk_at dksX0_solved_4 9 rfl rfl)
theorem dX0_solved_116 : decode cX0_solved 116 = .ok (.getfield 409, 3) := dk_180 1 153 (dk_at dksX0_solved_4 12 rfl rfl)
theorem dX0_solved_119 : decode cX0_solved 119 = .ok (.ireturn, 1) := dk_172 (dk_at dksX0_solved_4 15 rfl rfl)
theorem dX0_solved_120 : decode cX0_solved 120 = .ok (.aload_n 0, 1) := dk_42 (dk_at dksX0_solved_4 16 rfl rfl)
theorem dX0_solved_121 : decode cX0_solved 121 = .ok (.getfield 54, 3) := dk_180 0 54 (dk_at dksX0_solved_4 17 rfl rfl)
theorem dX0_solved_124 : decode cX0_solved 124 = .ok (.getfield 412, 3) := dk_180 1 156 (dk_at dksX0_solved_4 20 rfl rfl)
theorem dX0_solved_127 : decode cX0_solved 127 = .ok (.ireturn, 1) := dk_172 (dk_at dksX0_solved_4 23 rfl rfl)
theorem dX0_solved_128 : decode cX0_solved 128 = .ok (.aload_n 0, 1) := dk_42 (dk_at dksX0_solved_5 0 rfl rfl)
theorem dX0_solved_129 : decode cX0_solved 129 = .ok (.getfield 54, 3) := dk_180 0 54 (dk_at dksX0_solved_5 1 rfl rfl)
theorem dX0_solved_132 : decode cX0_solved 132 = .ok (.getfield 415, 3) := dk_180 1 159 (dk_at dksX0_solved_5 4 rfl rfl)
theorem dX0_solved_135 : decode cX0_solved 135 = .ok (.ireturn, 1) := dk_172 (dk_at dksX0_solved_5 7 rfl rfl)
theorem dX0_solved_136 : decode cX0_solved 136 = .ok (.aload_n 0, 1) := dk_42 (dk_at dksX0_solved_5 8 rfl rfl)
theorem dX0_solved_137 : decode cX0_solved 137 = .ok (.sipush (-1001), 3) := dk_17 252 23 (dk_at dksX0_solved_5 9 rfl rfl)
theorem dX0_solved_140 : decode cX0_solved 140 = .ok (.invokevirtual 124, 3) := dk_182 0 124 (dk_at dksX0_solved_5 12 rfl rfl)
theorem dX0_solved_143 : decode cX0_solved 143 = .ok (.ireturn, 1) := dk_172 (dk_at dksX0_solved_5 15 rfl rfl)
abbrev cX0_quarrel : ByteArray := prog_1_method_60_code
def yX0_quarrel : MethodName := ⟨RX0, "quarrel", "(I)I"⟩
def dkwX0_quarrel_1 : List UInt8 := [180, 1, 162, 153, 0, 15, 42, 180, 0, 54, 180, 1, 165, 27, 46, 167, 0, 6, 17, 252, 19, 172]
abbrev dktX0_quarrel_1 : List UInt8 := dkwX0_quarrel_1 ++ []
def dkwX0_quarrel_0 : List UInt8 := [27, 133, 9, 20, 1, 32, 184, 0, 109, 154, 0, 11, 42, 17, 252, 23, 182, 0, 124, 172, 42, 180, 0, 54]
abbrev dktX0_quarrel_0 : List UInt8 := dkwX0_quarrel_0 ++ dktX0_quarrel_1
theorem dksX0_quarrel_0 : cX0_quarrel.data.toList.drop 0 = dktX0_quarrel_0 := by decide +kernel
theorem dksX0_quarrel_1 : cX0_quarrel.data.toList.drop 24 = dktX0_quarrel_1 := dk_seg dksX0_quarrel_0 24 rfl rfl
theorem dX0_quarrel_0 : decode cX0_quarrel 0 = .ok (.iload_n 1, 1) := dk_27 (dk_at dksX0_quarrel_0 0 rfl rfl)
theorem dX0_quarrel_1 : decode cX0_quarrel 1 = .ok (.i2l, 1) := dk_133 (dk_at dksX0_quarrel_0 1 rfl rfl)
theorem dX0_quarrel_2 : decode cX0_quarrel 2 = .ok (.lconst 0, 1) := dk_9 (dk_at dksX0_quarrel_0 2 rfl rfl)
theorem dX0_quarrel_3 : decode cX0_quarrel 3 = .ok (.ldc2_w 288, 3) := dk_20 1 32 (dk_at dksX0_quarrel_0 3 rfl rfl)
theorem dX0_quarrel_6 : decode cX0_quarrel 6 = .ok (.invokestatic 109, 3) := dk_184 0 109 (dk_at dksX0_quarrel_0 6 rfl rfl)
theorem dX0_quarrel_9 : decode cX0_quarrel 9 = .ok (.ifCond .ne 11, 3) := dk_154 0 11 (dk_at dksX0_quarrel_0 9 rfl rfl)
theorem dX0_quarrel_12 : decode cX0_quarrel 12 = .ok (.aload_n 0, 1) := dk_42 (dk_at dksX0_quarrel_0 12 rfl rfl)
theorem dX0_quarrel_13 : decode cX0_quarrel 13 = .ok (.sipush (-1001), 3) := dk_17 252 23 (dk_at dksX0_quarrel_0 13 rfl rfl)
theorem dX0_quarrel_16 : decode cX0_quarrel 16 = .ok (.invokevirtual 124, 3) := dk_182 0 124 (dk_at dksX0_quarrel_0 16 rfl rfl)
theorem dX0_quarrel_19 : decode cX0_quarrel 19 = .ok (.ireturn, 1) := dk_172 (dk_at dksX0_quarrel_0 19 rfl rfl)
theorem dX0_quarrel_20 : decode cX0_quarrel 20 = .ok (.aload_n 0, 1) := dk_42 (dk_at dksX0_quarrel_0 20 rfl rfl)
theorem dX0_quarrel_21 : decode cX0_quarrel 21 = .ok (.getfield 54, 3) := dk_180 0 54 (dk_at dksX0_quarrel_0 21 rfl rfl)
theorem dX0_quarrel_24 : decode cX0_quarrel 24 = .ok (.getfield 418, 3) := dk_180 1 162 (dk_at dksX0_quarrel_1 0 rfl rfl)
theorem dX0_quarrel_27 : decode cX0_quarrel 27 = .ok (.ifCond .eq 15, 3) := dk_153 0 15 (dk_at dksX0_quarrel_1 3 rfl rfl)
theorem dX0_quarrel_30 : decode cX0_quarrel 30 = .ok (.aload_n 0, 1) := dk_42 (dk_at dksX0_quarrel_1 6 rfl rfl)
theorem dX0_quarrel_31 : decode cX0_quarrel 31 = .ok (.getfield 54, 3) := dk_180 0 54 (dk_at dksX0_quarrel_1 7 rfl rfl)
theorem dX0_quarrel_34 : decode cX0_quarrel 34 = .ok (.getfield 421, 3) := dk_180 1 165 (dk_at dksX0_quarrel_1 10 rfl rfl)
theorem dX0_quarrel_37 : decode cX0_quarrel 37 = .ok (.iload_n 1, 1) := dk_27 (dk_at dksX0_quarrel_1 13 rfl rfl)
theorem dX0_quarrel_38 : decode cX0_quarrel 38 = .ok (.iaload, 1) := dk_46 (dk_at dksX0_quarrel_1 14 rfl rfl)
theorem dX0_quarrel_39 : decode cX0_quarrel 39 = .ok (.goto 6, 3) := dk_167 0 6 (dk_at dksX0_quarrel_1 15 rfl rfl)
theorem dX0_quarrel_42 : decode cX0_quarrel 42 = .ok (.sipush (-1005), 3) := dk_17 252 19 (dk_at dksX0_quarrel_1 18 rfl rfl)
theorem dX0_quarrel_45 : decode cX0_quarrel 45 = .ok (.ireturn, 1) := dk_172 (dk_at dksX0_quarrel_1 21 rfl rfl)
abbrev cX0_line : ByteArray := prog_1_method_61_code
def yX0_line : MethodName := ⟨RX0, "line", "(II)I"⟩
def dkwX0_line_7 : List UInt8 := [184, 1, 168, 172, 17, 252, 19, 172]
abbrev dktX0_line_7 : List UInt8 := dkwX0_line_7 ++ []
def dkwX0_line_6 : List UInt8 := [29, 46, 42, 180, 0, 54, 180, 1, 180, 29, 46, 42, 180, 0, 54, 180, 1, 183, 29, 46, 96, 28]
abbrev dktX0_line_6 : List UInt8 := dkwX0_line_6 ++ dktX0_line_7
def dkwX0_line_5 : List UInt8 := [17, 2, 52, 27, 96, 17, 7, 208, 100, 62, 42, 180, 0, 54, 180, 1, 177, 42, 180, 0, 54, 180, 1, 180]
abbrev dktX0_line_5 : List UInt8 := dkwX0_line_5 ++ dktX0_line_6
def dkwX0_line_4 : List UInt8 := [20, 1, 175, 17, 7, 208, 42, 180, 0, 54, 180, 1, 144, 96, 4, 100, 133, 184, 0, 109, 153, 0, 53]
abbrev dktX0_line_4 : List UInt8 := dkwX0_line_4 ++ dktX0_line_5
def dkwX0_line_3 : List UInt8 := [17, 3, 232, 100, 46, 42, 180, 0, 74, 27, 17, 3, 232, 100, 4, 96, 46, 28, 184, 1, 168, 172, 27, 133]
abbrev dktX0_line_3 : List UInt8 := dkwX0_line_3 ++ dktX0_line_4
def dkwX0_line_2 : List UInt8 := [180, 1, 172, 96, 4, 100, 133, 184, 0, 109, 153, 0, 34, 42, 180, 0, 71, 42, 180, 0, 74, 27]
abbrev dktX0_line_2 : List UInt8 := dkwX0_line_2 ++ dktX0_line_3
def dkwX0_line_1 : List UInt8 := [27, 46, 42, 180, 0, 40, 27, 4, 96, 46, 28, 184, 1, 168, 172, 27, 133, 20, 1, 74, 17, 3, 232, 42]
abbrev dktX0_line_1 : List UInt8 := dkwX0_line_1 ++ dktX0_line_2
def dkwX0_line_0 : List UInt8 := [27, 133, 9, 42, 180, 0, 202, 4, 100, 133, 184, 0, 109, 153, 0, 26, 42, 180, 0, 37, 42, 180, 0, 40]
abbrev dktX0_line_0 : List UInt8 := dkwX0_line_0 ++ dktX0_line_1
theorem dksX0_line_0 : cX0_line.data.toList.drop 0 = dktX0_line_0 := by decide +kernel
theorem dksX0_line_1 : cX0_line.data.toList.drop 24 = dktX0_line_1 := dk_seg dksX0_line_0 24 rfl rfl
theorem dksX0_line_2 : cX0_line.data.toList.drop 48 = dktX0_line_2 := dk_seg dksX0_line_1 24 rfl rfl
theorem dksX0_line_3 : cX0_line.data.toList.drop 70 = dktX0_line_3 := dk_seg dksX0_line_2 22 rfl rfl
theorem dksX0_line_4 : cX0_line.data.toList.drop 94 = dktX0_line_4 := dk_seg dksX0_line_3 24 rfl rfl
theorem dksX0_line_5 : cX0_line.data.toList.drop 117 = dktX0_line_5 := dk_seg dksX0_line_4 23 rfl rfl
theorem dksX0_line_6 : cX0_line.data.toList.drop 141 = dktX0_line_6 := dk_seg dksX0_line_5 24 rfl rfl
theorem dksX0_line_7 : cX0_line.data.toList.drop 163 = dktX0_line_7 := dk_seg dksX0_line_6 22 rfl rfl
theorem dX0_line_0 : decode cX0_line 0 = .ok (.iload_n 1, 1) := dk_27 (dk_at dksX0_line_0 0 rfl rfl)
theorem dX0_line_1 : decode cX0_line 1 = .ok (.i2l, 1) := dk_133 (dk_at dksX0_line_0 1 rfl rfl)
theorem dX0_line_2 : decode cX0_line 2 = .ok (.lconst 0, 1) := dk_9 (dk_at dksX0_line_0 2 rfl rfl)
theorem dX0_line_3 : decode cX0_line 3 = .ok (.aload_n 0, 1) := dk_42 (dk_at dksX0_line_0 3 rfl rfl)
theorem dX0_line_4 : decode cX0_line 4 = .ok (.getfield 202, 3) := dk_180 0 202 (dk_at dksX0_line_0 4 rfl rfl)
theorem dX0_line_7 : decode cX0_line 7 = .ok (.iconst 1, 1) := dk_4 (dk_at dksX0_line_0 7 rfl rfl)
theorem dX0_line_8 : decode cX0_line 8 = .ok (.isub, 1) := dk_100 (dk_at dksX0_line_0 8 rfl rfl)
theorem dX0_line_9 : decode cX0_line 9 = .ok (.i2l, 1) := dk_133 (dk_at dksX0_line_0 9 rfl rfl)
theorem dX0_line_10 : decode cX0_line 10 = .ok (.invokestatic 109, 3) := dk_184 0 109 (dk_at dksX0_line_0 10 rfl rfl)
theorem dX0_line_13 : decode cX0_line 13 = .ok (.ifCond .eq 26, 3) := dk_153 0 26 (dk_at dksX0_line_0 13 rfl rfl)
theorem dX0_line_16 : decode cX0_line 16 = .ok (.aload_n 0, 1) := dk_42 (dk_at dksX0_line_0 16 rfl rfl)
theorem dX0_line_17 : decode cX0_line 17 = .ok (.getfield 37, 3) := dk_180 0 37 (dk_at dksX0_line_0 17 rfl rfl)
theorem dX0_line_20 : decode cX0_line 20 = .ok (.aload_n 0, 1) := dk_42 (dk_at dksX0_line_0 20 rfl rfl)
theorem dX0_line_21 : decode cX0_line 21 = .ok (.getfield 40, 3) := dk_180 0 40 (dk_at dksX0_line_0 21 rfl rfl)
theorem dX0_line_24 : decode cX0_line 24 = .ok (.iload_n 1, 1) := dk_27 (dk_at dksX0_line_1 0 rfl rfl)
theorem dX0_line_25 : decode cX0_line 25 = .ok (.iaload, 1) := dk_46 (dk_at dksX0_line_1 1 rfl rfl)
theorem dX0_line_26 : decode cX0_line 26 = .ok (.aload_n 0, 1) := dk_42 (dk_at dksX0_line_1 2 rfl rfl)
theorem dX0_line_27 : decode cX0_line 27 = .ok (.getfield 40, 3) := dk_180 0 40 (dk_at dksX0_line_1 3 rfl rfl)
theorem dX0_line_30 : decode cX0_line 30 = .ok (.iload_n 1, 1) := dk_27 (dk_at dksX0_line_1 6 rfl rfl)
theorem dX0_line_31 : decode cX0_line 31 = .ok (.iconst 1, 1) := dk_4 (dk_at dksX0_line_1 7 rfl rfl)
theorem dX0_line_32 : decode cX0_line 32 = .ok (.iadd, 1) := dk_96 (dk_at dksX0_line_1 8 rfl rfl)
theorem dX0_line_33 : decode cX0_line 33 = .ok (.iaload, 1) := dk_46 (dk_at dksX0_line_1 9 rfl rfl)
theorem dX0_line_34 : decode cX0_line 34 = .ok (.iload_n 2, 1) := dk_28 (dk_at dksX0_line_1 10 rfl rfl)
theorem dX0_line_35 : decode cX0_line 35 = .ok (.invokestatic 424, 3) := dk_184 1 168 (dk_at dksX0_line_1 11 rfl rfl)
theorem dX0_line_38 : decode cX0_line 38 = .ok (.ireturn, 1) := dk_172 (dk_at dksX0_line_1 14 rfl rfl)
theorem dX0_line_39 : decode cX0_line 39 = .ok (.iload_n 1, 1) := dk_27 (dk_at dksX0_line_1 15 rfl rfl)
theorem dX0_line_40 : decode cX0_line 40 = .ok (.i2l, 1) := dk_133 (dk_at dksX0_line_1 16 rfl rfl)
theorem dX0_line_41 : decode cX0_line 41 = .ok (.ldc2_w 330, 3) := dk_20 1 74 (dk_at dksX0_line_1 17 rfl rfl)
theorem dX0_line_44 : decode cX0_line 44 = .ok (.sipush 1000, 3) := dk_17 3 232 (dk_at dksX0_line_1 20 rfl rfl)
theorem dX0_line_47 : decode cX0_line 47 = .ok (.aload_n 0, 1) := dk_42 (dk_at dksX0_line_1 23 rfl rfl)
theorem dX0_line_48 : decode cX0_line 48 = .ok (.getfield 428, 3) := dk_180 1 172 (dk_at dksX0_line_2 0 rfl rfl)
theorem dX0_line_51 : decode cX0_line 51 = .ok (.iadd, 1) := dk_96 (dk_at dksX0_line_2 3 rfl rfl)
theorem dX0_line_52 : decode cX0_line 52 = .ok (.iconst 1, 1) := dk_4 (dk_at dksX0_line_2 4 rfl rfl)
theorem dX0_line_53 : decode cX0_line 53 = .ok (.isub, 1) := dk_100 (dk_at dksX0_line_2 5 rfl rfl)
theorem dX0_line_54 : decode cX0_line 54 = .ok (.i2l, 1) := dk_133 (dk_at dksX0_line_2 6 rfl rfl)
theorem dX0_line_55 : decode cX0_line 55 = .ok (.invokestatic 109, 3) := dk_184 0 109 (dk_at dksX0_line_2 7 rfl rfl)
theorem dX0_line_58 : decode cX0_line 58 = .ok (.ifCond .eq 34, 3) := dk_153 0 34 (dk_at dksX0_line_2 10 rfl rfl)
theorem dX0_line_61 : decode cX0_line 61 = .ok (.aload_n 0, 1) := dk_42 (dk_at dksX0_line_2 13 rfl rfl)
theorem dX0_line_62 : decode cX0_line 62 = .ok (.getfield 71, 3) := dk_180 0 71 (dk_at dksX0_line_2 14 rfl rfl)
theorem dX0_line_65 : decode cX0_line 65 = .ok (.aload_n 0, 1) := dk_42 (dk_at dksX0_line_2 17 rfl rfl)
theorem dX0_line_66 : decode cX0_line 66 = .ok (.getfield 74, 3) := dk_180 0 74 (dk_at dksX0_line_2 18 rfl rfl)
theorem dX0_line_69 : decode cX0_line 69 = .ok (.iload_n 1, 1) := dk_27 (dk_at dksX0_line_2 21 rfl rfl)
theorem dX0_line_70 : decode cX0_line 70 = .ok (.sipush 1000, 3) := dk_17 3 232 (dk_at dksX0_line_3 0 rfl rfl)
theorem dX0_line_73 : decode cX0_line 73 = .ok (.isub, 1) := dk_100 (dk_at dksX0_line_3 3 rfl rfl)
theorem dX0_line_74 : decode cX0_line 74 = .ok (.iaload, 1) := dk_46 (dk_at dksX0_line_3 4 rfl rfl)
theorem dX0_line_75 : decode cX0_line 75 = .ok (.aload_n 0, 1) := dk_42 (dk_at dksX0_line_3 5 rfl rfl)
theorem dX0_line_76 : decode cX0_line 76 = .ok (.getfield 74, 3) := dk_180 0 74 (dk_at dksX0_line_3 6 rfl rfl)
theorem dX0_line_79 : decode cX0_line 79 = .ok (.iload_n 1, 1) := dk_27 (dk_at dksX0_line_3 9 rfl rfl)
theorem dX0_line_80 : decode cX0_line 80 = .ok (.sipush 1000, 3) := dk_17 3 232 (dk_at dksX0_line_3 10 rfl rfl)
theorem dX0_line_83 : decode cX0_line 83 = .ok (.isub, 1) := dk_100 (dk_at dksX0_line_3 13 rfl rfl)
theorem dX0_line_84 : decode cX0_line 84 = .ok (.iconst 1, 1) := dk_4 (dk_at dksX0_line_3 14 rfl rfl)
theorem dX0_line_85 : decode cX0_line 85 = .ok (.iadd, 1) := dk_96 (dk_at dksX0_line_3 15 rfl rfl)
theorem dX0_line_86 : decode cX0_line 86 = .ok (.iaload, 1) := dk_46 (dk_at dksX0_line_3 16 rfl rfl)
theorem dX0_line_87 : decode cX0_line 87 = .ok (.iload_n 2, 1) := dk_28 (dk_at dksX0_line_3 17 rfl rfl)
theorem dX0_line_88 : decode cX0_line 88 = .ok (.invokestatic 424, 3) := dk_184 1 168 (dk_at dksX0_line_3 18 rfl rfl)
theorem dX0_line_91 : decode cX0_line 91 = .ok (.ireturn, 1) := dk_172 (dk_at dksX0_line_3 21 rfl rfl)
theorem dX0_line_92 : decode cX0_line 92 = .ok (.iload_n 1, 1) := dk_27 (dk_at dksX0_line_3 22 rfl rfl)
theorem dX0_line_93 : decode cX0_line 93 = .ok (.i2l, 1) := dk_133 (dk_at dksX0_line_3 23 rfl rfl)
theorem dX0_line_94 : decode cX0_line 94 = .ok (.ldc2_w 431, 3) := dk_20 1 175 (dk_at dksX0_line_4 0 rfl rfl)
theorem dX0_line_97 : decode cX0_line 97 = .ok (.sipush 2000, 3) := dk_17 7 208 (dk_at dksX0_line_4 3 rfl rfl)
theorem dX0_line_100 : decode cX0_line 100 = .ok (.aload_n 0, 1) := dk_42 (dk_at dksX0_line_4 6 rfl rfl)
theorem dX0_line_101 : decode cX0_line 101 = .ok (.getfield 54, 3) := dk_180 0 54 (dk_at dksX0_line_4 7 rfl rfl)
theorem dX0_line_104 : decode cX0_line 104 = .ok (.getfield 400, 3) := dk_180 1 144 (dk_at dksX0_line_4 10 rfl rfl)
theorem dX0_line_107 : decode cX0_line 107 = .ok (.iadd, 1) := dk_96 (dk_at dksX0_line_4 13 rfl rfl)
theorem dX0_line_108 : decode cX0_line 108 = .ok (.iconst 1, 1) := dk_4 (dk_at dksX0_line_4 14 rfl rfl)
theorem dX0_line_109 : decode cX0_line 109 = .ok (.isub, 1) := dk_100 (dk_at dksX0_line_4 15 rfl rfl)
theorem dX0_line_110 : decode cX0_line 110 = .ok (.i2l, 1) := dk_133 (dk_at dksX0_line_4 16 rfl rfl)
theorem dX0_line_111 : decode cX0_line 111 = .ok (.invokestatic 109, 3) := dk_184 0 109 (dk_at dksX0_line_4 17 rfl rfl)
theorem dX0_line_114 : decode cX0_line 114 = .ok (.ifCond .eq 53, 3) := dk_153 0 53 (dk_at dksX0_line_4 20 rfl rfl)
theorem dX0_line_117 : decode cX0_line 117 = .ok (.sipush 564, 3) := dk_17 2 52 (dk_at dksX0_line_5 0 rfl rfl)
theorem dX0_line_120 : decode cX0_line 120 = .ok (.iload_n 1, 1) := dk_27 (dk_at dksX0_line_5 3 rfl rfl)
theorem dX0_line_121 : decode cX0_line 121 = .ok (.iadd, 1) := dk_96 (dk_at dksX0_line_5 4 rfl rfl)
theorem dX0_line_122 : decode cX0_line 122 = .ok (.sipush 2000, 3) := dk_17 7 208 (dk_at dksX0_line_5 5 rfl rfl)
theorem dX0_line_125 : decode cX0_line 125 = .ok (.isub, 1) := dk_100 (dk_at dksX0_line_5 8 rfl rfl)
theorem dX0_line_126 : decode cX0_line 126 = .ok (.istore_n 3, 1) := dk_62 (dk_at dksX0_line_5 9 rfl rfl)
theorem dX0_line_127 : decode cX0_line 127 = .ok (.aload_n 0, 1) := dk_42 (dk_at dksX0_line_5 10 rfl rfl)
theorem dX0_line_128 : decode cX0_line 128 = .ok (.getfield 54, 3) := dk_180 0 54 (dk_at dksX0_line_5 11 rfl rfl)
theorem dX0_line_131 : decode cX0_line 131 = .ok (.getfield 433, 3) := dk_180 1 177 (dk_at dksX0_line_5 14 rfl rfl)
theorem dX0_line_134 : decode cX0_line 134 = .ok (.aload_n 0, 1) := dk_42 (dk_at dksX0_line_5 17 rfl rfl)
theorem dX0_line_135 : decode cX0_line 135 = .ok (.getfield 54, 3) := dk_180 0 54 (dk_at dksX0_line_5 18 rfl rfl)
theorem dX0_line_138 : decode cX0_line 138 = .ok (.getfield 436, 3) := dk_180 1 180 (dk_at dksX0_line_5 21 rfl rfl)
theorem dX0_line_141 : decode cX0_line 141 = .ok (.iload_n 3, 1) := dk_29 (dk_at dksX0_line_6 0 rfl rfl)
theorem dX0_line_142 : decode cX0_line 142 = .ok (.iaload, 1) := dk_46 (dk_at dksX0_line_6 1 rfl rfl)
theorem dX0_line_143 : decode cX0_line 143 = .ok (.aload_n 0, 1) := dk_42 (dk_at dksX0_line_6 2 rfl rfl)
theorem dX0_line_144 : decode cX0_line 144 = .ok (.getfield 54, 3) := dk_180 0 54 (dk_at dksX0_line_6 3 rfl rfl)
theorem dX0_line_147 : decode cX0_line 147 = .ok (.getfield 436, 3) := dk_180 1 180 (dk_at dksX0_line_6 6 rfl rfl)
theorem dX0_line_150 : decode cX0_line 150 = .ok (.iload_n 3, 1) := dk_29 (dk_at dksX0_line_6 9 rfl rfl)
theorem dX0_line_151 : decode cX0_line 151 = .ok (.iaload, 1) := dk_46 (dk_at dksX0_line_6 10 rfl rfl)
theorem dX0_line_152 : decode cX0_line 152 = .ok (.aload_n 0, 1) := dk_42 (dk_at dksX0_line_6 11 rfl rfl)
theorem dX0_line_153 : decode cX0_line 153 = .ok (.getfield 54, 3) := dk_180 0 54 (dk_at dksX0_line_6 12 rfl rfl)
theorem dX0_line_156 : decode cX0_line 156 = .ok (.getfield 439, 3) := dk_180 1 183 (dk_at dksX0_line_6 15 rfl rfl)
theorem dX0_line_159 : decode cX0_line 159 = .ok (.iload_n 3, 1) := dk_29 (dk_at dksX0_line_6 18 rfl rfl)
theorem dX0_line_160 : decode cX0_line 160 = .ok (.iaload, 1) := dk_46 (dk_at dksX0_line_6 19 rfl rfl)
theorem dX0_line_161 : decode cX0_line 161 = .ok (.iadd, 1) := dk_96 (dk_at dksX0_line_6 20 rfl rfl)
theorem dX0_line_162 : decode cX0_line 162 = .ok (.iload_n 2, 1) := dk_28 (dk_at dksX0_line_6 21 rfl rfl)
theorem dX0_line_163 : decode cX0_line 163 = .ok (.invokestatic 424, 3) := dk_184 1 168 (dk_at dksX0_line_7 0 rfl rfl)
theorem dX0_line_166 : decode cX0_line 166 = .ok (.ireturn, 1) := dk_172 (dk_at dksX0_line_7 3 rfl rfl)
theorem dX0_line_167 : decode cX0_line 167 = .ok (.sipush (-1005), 3) := dk_17 252 19 (dk_at dksX0_line_7 4 rfl rfl)
theorem dX0_line_170 : decode cX0_line 170 = .ok (.ireturn, 1) := dk_172 (dk_at dksX0_line_7 7 rfl rfl)
abbrev cX0_at : ByteArray := prog_1_method_62_code
def yX0_at : MethodName := ⟨RX0, "at", "([IIII)I"⟩
def dkwX0_at_1 : List UInt8 := [153, 0, 11, 42, 27, 29, 96, 46, 167, 0, 6, 17, 252, 19, 172]
abbrev dktX0_at_1 : List UInt8 := dkwX0_at_1 ++ []
def dkwX0_at_0 : List UInt8 := [29, 2, 160, 0, 9, 28, 27, 100, 167, 0, 29, 29, 133, 9, 28, 27, 100, 4, 100, 133, 184, 0, 109]
abbrev dktX0_at_0 : List UInt8 := dkwX0_at_0 ++ dktX0_at_1
theorem dksX0_at_0 : cX0_at.data.toList.drop 0 = dktX0_at_0 := by decide +kernel
theorem dksX0_at_1 : cX0_at.data.toList.drop 23 = dktX0_at_1 := dk_seg dksX0_at_0 23 rfl rfl
theorem dX0_at_0 : decode cX0_at 0 = .ok (.iload_n 3, 1) := dk_29 (dk_at dksX0_at_0 0 rfl rfl)
theorem dX0_at_1 : decode cX0_at 1 = .ok (.iconst (-1), 1) := dk_2 (dk_at dksX0_at_0 1 rfl rfl)
theorem dX0_at_2 : decode cX0_at 2 = .ok (.if_icmp .ne 9, 3) := dk_160 0 9 (dk_at dksX0_at_0 2 rfl rfl)
theorem dX0_at_5 : decode cX0_at 5 = .ok (.iload_n 2, 1) := dk_28 (dk_at dksX0_at_0 5 rfl rfl)
theorem dX0_at_6 : decode cX0_at 6 = .ok (.iload_n 1, 1) := dk_27 (dk_at dksX0_at_0 6 rfl rfl)
theorem dX0_at_7 : decode cX0_at 7 = .ok (.isub, 1) := dk_100 (dk_at dksX0_at_0 7 rfl rfl)
theorem dX0_at_8 : decode cX0_at 8 = .ok (.goto 29, 3) := dk_167 0 29 (dk_at dksX0_at_0 8 rfl rfl)
theorem dX0_at_11 : decode cX0_at 11 = .ok (.iload_n 3, 1) := dk_29 (dk_at dksX0_at_0 11 rfl rfl)
theorem dX0_at_12 : decode cX0_at 12 = .ok (.i2l, 1) := dk_133 (dk_at dksX0_at_0 12 rfl rfl)
theorem dX0_at_13 : decode cX0_at 13 = .ok (.lconst 0, 1) := dk_9 (dk_at dksX0_at_0 13 rfl rfl)
theorem dX0_at_14 : decode cX0_at 14 = .ok (.iload_n 2, 1) := dk_28 (dk_at dksX0_at_0 14 rfl rfl)
theorem dX0_at_15 : decode cX0_at 15 = .ok (.iload_n 1, 1) := dk_27 (dk_at dksX0_at_0 15 rfl rfl)
theorem dX0_at_16 : decode cX0_at 16 = .ok (.isub, 1) := dk_100 (dk_at dksX0_at_0 16 rfl rfl)
theorem dX0_at_17 : decode cX0_at 17 = .ok (.iconst 1, 1) := dk_4 (dk_at dksX0_at_0 17 rfl rfl)
theorem dX0_at_18 : decode cX0_at 18 = .ok (.isub, 1) := dk_100 (dk_at dksX0_at_0 18 rfl rfl)
theorem dX0_at_19 : decode cX0_at 19 = .ok (.i2l, 1) := dk_133 (dk_at dksX0_at_0 19 rfl rfl)
theorem dX0_at_20 : decode cX0_at 20 = .ok (.invokestatic 109, 3) := dk_184 0 109 (dk_at dksX0_at_0 20 rfl rfl)
theorem dX0_at_23 : decode cX0_at 23 = .ok (.ifCond .eq 11, 3) := dk_153 0 11 (dk_at dksX0_at_1 0 rfl rfl)
theorem dX0_at_26 : decode cX0_at 26 = .ok (.aload_n 0, 1) := dk_42 (dk_at dksX0_at_1 3 rfl rfl)
theorem dX0_at_27 : decode cX0_at 27 = .ok (.iload_n 1, 1) := dk_27 (dk_at dksX0_at_1 4 rfl rfl)
theorem dX0_at_28 : decode cX0_at 28 = .ok (.iload_n 3, 1) := dk_29 (dk_at dksX0_at_1 5 rfl rfl)
theorem dX0_at_29 : decode cX0_at 29 = .ok (.iadd, 1) := dk_96 (dk_at dksX0_at_1 6 rfl rfl)
theorem dX0_at_30 : decode cX0_at 30 = .ok (.iaload, 1) := dk_46 (dk_at dksX0_at_1 7 rfl rfl)
theorem dX0_at_31 : decode cX0_at 31 = .ok (.goto 6, 3) := dk_167 0 6 (dk_at dksX0_at_1 8 rfl rfl)
theorem dX0_at_34 : decode cX0_at 34 = .ok (.sipush (-1005), 3) := dk_17 252 19 (dk_at dksX0_at_1 11 rfl rfl)
theorem dX0_at_37 : decode cX0_at 37 = .ok (.ireturn, 1) := dk_172 (dk_at dksX0_at_1 14 rfl rfl)
abbrev cX0_core : ByteArray := prog_1_method_66_code
def yX0_core : MethodName := ⟨RX0, "core", "(I)I"⟩
def dkwX0_core_2 : List UInt8 := [180, 0, 54, 180, 1, 199, 172]
abbrev dktX0_core_2 : List UInt8 := dkwX0_core_2 ++ []
def dkwX0_core_1 : List UInt8 := [154, 0, 11, 42, 17, 252, 22, 182, 0, 124, 172, 27, 154, 0, 10, 42, 182, 1, 196, 167, 0, 10, 42]
abbrev dktX0_core_1 : List UInt8 := dkwX0_core_1 ++ dktX0_core_2
def dkwX0_core_0 : List UInt8 := [27, 133, 9, 10, 184, 0, 109, 154, 0, 11, 42, 17, 252, 23, 182, 0, 124, 172, 42, 182, 1, 192]
abbrev dktX0_core_0 : List UInt8 := dkwX0_core_0 ++ dktX0_core_1
theorem dksX0_core_0 : cX0_core.data.toList.drop 0 = dktX0_core_0 := by decide +kernel
theorem dksX0_core_1 : cX0_core.data.toList.drop 22 = dktX0_core_1 := dk_seg dksX0_core_0 22 rfl rfl
theorem dksX0_core_2 : cX0_core.data.toList.drop 45 = dktX0_core_2 := dk_seg dksX0_core_1 23 rfl rfl
theorem dX0_core_0 : decode cX0_core 0 = .ok (.iload_n 1, 1) := dk_27 (dk_at dksX0_core_0 0 rfl rfl)
theorem dX0_core_1 : decode cX0_core 1 = .ok (.i2l, 1) := dk_133 (dk_at dksX0_core_0 1 rfl rfl)
theorem dX0_core_2 : decode cX0_core 2 = .ok (.lconst 0, 1) := dk_9 (dk_at dksX0_core_0 2 rfl rfl)
theorem dX0_core_3 : decode cX0_core 3 = .ok (.lconst 1, 1) := dk_10 (dk_at dksX0_core_0 3 rfl rfl)
theorem dX0_core_4 : decode cX0_core 4 = .ok (.invokestatic 109, 3) := dk_184 0 109 (dk_at dksX0_core_0 4 rfl rfl)
theorem dX0_core_7 : decode cX0_core 7 = .ok (.ifCond .ne 11, 3) := dk_154 0 11 (dk_at dksX0_core_0 7 rfl rfl)
theorem dX0_core_10 : decode cX0_core 10 = .ok (.aload_n 0, 1) := dk_42 (dk_at dksX0_core_0 10 rfl rfl)
theorem dX0_core_11 : decode cX0_core 11 = .ok (.sipush (-1001), 3) := dk_17 252 23 (dk_at dksX0_core_0 11 rfl rfl)
theorem dX0_core_14 : decode cX0_core 14 = .ok (.invokevirtual 124, 3) := dk_182 0 124 (dk_at dksX0_core_0 14 rfl rfl)
theorem dX0_core_17 : decode cX0_core 17 = .ok (.ireturn, 1) := dk_172 (dk_at dksX0_core_0 17 rfl rfl)
theorem dX0_core_18 : decode cX0_core 18 = .ok (.aload_n 0, 1) := dk_42 (dk_at dksX0_core_0 18 rfl rfl)
theorem dX0_core_19 : decode cX0_core 19 = .ok (.invokevirtual 448, 3) := dk_182 1 192 (dk_at dksX0_core_0 19 rfl rfl)
theorem dX0_core_22 : decode cX0_core 22 = .ok (.ifCond .ne 11, 3) := dk_154 0 11 (dk_at dksX0_core_1 0 rfl rfl)
theorem dX0_core_25 : decode cX0_core 25 = .ok (.aload_n 0, 1) := dk_42 (dk_at dksX0_core_1 3 rfl rfl)
theorem dX0_core_26 : decode cX0_core 26 = .ok (.sipush (-1002), 3) := dk_17 252 22 (dk_at dksX0_core_1 4 rfl rfl)
theorem dX0_core_29 : decode cX0_core 29 = .ok (.invokevirtual 124, 3) := dk_182 0 124 (dk_at dksX0_core_1 7 rfl rfl)
theorem dX0_core_32 : decode cX0_core 32 = .ok (.ireturn, 1) := dk_172 (dk_at dksX0_core_1 10 rfl rfl)
theorem dX0_core_33 : decode cX0_core 33 = .ok (.iload_n 1, 1) := dk_27 (dk_at dksX0_core_1 11 rfl rfl)
theorem dX0_core_34 : decode cX0_core 34 = .ok (.ifCond .ne 10, 3) := dk_154 0 10 (dk_at dksX0_core_1 12 rfl rfl)
theorem dX0_core_37 : decode cX0_core 37 = .ok (.aload_n 0, 1) := dk_42 (dk_at dksX0_core_1 15 rfl rfl)
theorem dX0_core_38 : decode cX0_core 38 = .ok (.invokevirtual 452, 3) := dk_182 1 196 (dk_at dksX0_core_1 16 rfl rfl)
theorem dX0_core_41 : decode cX0_core 41 = .ok (.goto 10, 3) := dk_167 0 10 (dk_at dksX0_core_1 19 rfl rfl)
theorem dX0_core_44 : decode cX0_core 44 = .ok (.aload_n 0, 1) := dk_42 (dk_at dksX0_core_1 22 rfl rfl)
theorem dX0_core_45 : decode cX0_core 45 = .ok (.getfield 54, 3) := dk_180 0 54 (dk_at dksX0_core_2 0 rfl rfl)
theorem dX0_core_48 : decode cX0_core 48 = .ok (.getfield 455, 3) := dk_180 1 199 (dk_at dksX0_core_2 3 rfl rfl)
theorem dX0_core_51 : decode cX0_core 51 = .ok (.ireturn, 1) := dk_172 (dk_at dksX0_core_2 6 rfl rfl)
abbrev cX0_hasCore : ByteArray := prog_1_method_63_code
def yX0_hasCore : MethodName := ⟨RX0, "hasCore", "()Z"⟩
def dkwX0_hasCore_0 : List UInt8 := [42, 180, 0, 54, 180, 1, 132, 154, 0, 14, 42, 180, 1, 118, 154, 0, 7, 4, 167, 0, 4, 3, 172]
abbrev dktX0_hasCore_0 : List UInt8 := dkwX0_hasCore_0 ++ []
theorem dksX0_hasCore_0 : cX0_hasCore.data.toList.drop 0 = dktX0_hasCore_0 := by decide +kernel
theorem dX0_hasCore_0 : decode cX0_hasCore 0 = .ok (.aload_n 0, 1) := dk_42 (dk_at dksX0_hasCore_0 0 rfl rfl)
theorem dX0_hasCore_1 : decode cX0_hasCore 1 = .ok (.getfield 54, 3) := dk_180 0 54 (dk_at dksX0_hasCore_0 1 rfl rfl)
theorem dX0_hasCore_4 : decode cX0_hasCore 4 = .ok (.getfield 388, 3) := dk_180 1 132 (dk_at dksX0_hasCore_0 4 rfl rfl)
theorem dX0_hasCore_7 : decode cX0_hasCore 7 = .ok (.ifCond .ne 14, 3) := dk_154 0 14 (dk_at dksX0_hasCore_0 7 rfl rfl)
theorem dX0_hasCore_10 : decode cX0_hasCore 10 = .ok (.aload_n 0, 1) := dk_42 (dk_at dksX0_hasCore_0 10 rfl rfl)
theorem dX0_hasCore_11 : decode cX0_hasCore 11 = .ok (.getfield 374, 3) := dk_180 1 118 (dk_at dksX0_hasCore_0 11 rfl rfl)
theorem dX0_hasCore_14 : decode cX0_hasCore 14 = .ok (.ifCond .ne 7, 3) := dk_154 0 7 (dk_at dksX0_hasCore_0 14 rfl rfl)
theorem dX0_hasCore_17 : decode cX0_hasCore 17 = .ok (.iconst 1, 1) := dk_4 (dk_at dksX0_hasCore_0 17 rfl rfl)
theorem dX0_hasCore_18 : decode cX0_hasCore 18 = .ok (.goto 4, 3) := dk_167 0 4 (dk_at dksX0_hasCore_0 18 rfl rfl)
theorem dX0_hasCore_21 : decode cX0_hasCore 21 = .ok (.iconst 0, 1) := dk_3 (dk_at dksX0_hasCore_0 21 rfl rfl)
theorem dX0_hasCore_22 : decode cX0_hasCore 22 = .ok (.ireturn, 1) := dk_172 (dk_at dksX0_hasCore_0 22 rfl rfl)
abbrev cX0_coreRows : ByteArray := prog_1_method_65_code
def yX0_coreRows : MethodName := ⟨RX0, "coreRows", "()I"⟩
def dkwX0_coreRows_1 : List UInt8 := [3, 96, 60, 132, 2, 1, 167, 255, 230, 27, 172]
abbrev dktX0_coreRows_1 : List UInt8 := dkwX0_coreRows_1 ++ []
def dkwX0_coreRows_0 : List UInt8 := [3, 60, 3, 61, 28, 17, 1, 244, 162, 0, 25, 27, 42, 28, 182, 1, 189, 153, 0, 7, 4, 167, 0, 4]
abbrev dktX0_coreRows_0 : List UInt8 := dkwX0_coreRows_0 ++ dktX0_coreRows_1
theorem dksX0_coreRows_0 : cX0_coreRows.data.toList.drop 0 = dktX0_coreRows_0 := by decide +kernel
theorem dksX0_coreRows_1 : cX0_coreRows.data.toList.drop 24 = dktX0_coreRows_1 := dk_seg dksX0_coreRows_0 24 rfl rfl
theorem dX0_coreRows_0 : decode cX0_coreRows 0 = .ok (.iconst 0, 1) := dk_3 (dk_at dksX0_coreRows_0 0 rfl rfl)
theorem dX0_coreRows_1 : decode cX0_coreRows 1 = .ok (.istore_n 1, 1) := dk_60 (dk_at dksX0_coreRows_0 1 rfl rfl)
theorem dX0_coreRows_2 : decode cX0_coreRows 2 = .ok (.iconst 0, 1) := dk_3 (dk_at dksX0_coreRows_0 2 rfl rfl)
theorem dX0_coreRows_3 : decode cX0_coreRows 3 = .ok (.istore_n 2, 1) := dk_61 (dk_at dksX0_coreRows_0 3 rfl rfl)
theorem dX0_coreRows_4 : decode cX0_coreRows 4 = .ok (.iload_n 2, 1) := dk_28 (dk_at dksX0_coreRows_0 4 rfl rfl)
theorem dX0_coreRows_5 : decode cX0_coreRows 5 = .ok (.sipush 500, 3) := dk_17 1 244 (dk_at dksX0_coreRows_0 5 rfl rfl)
theorem dX0_coreRows_8 : decode cX0_coreRows 8 = .ok (.if_icmp .ge 25, 3) := dk_162 0 25 (dk_at dksX0_coreRows_0 8 rfl rfl)
theorem dX0_coreRows_11 : decode cX0_coreRows 11 = .ok (.iload_n 1, 1) := dk_27 (dk_at dksX0_coreRows_0 11 rfl rfl)
theorem dX0_coreRows_12 : decode cX0_coreRows 12 = .ok (.aload_n 0, 1) := dk_42 (dk_at dksX0_coreRows_0 12 rfl rfl)
theorem dX0_coreRows_13 : decode cX0_coreRows 13 = .ok (.iload_n 2, 1) := dk_28 (dk_at dksX0_coreRows_0 13 rfl rfl)
theorem dX0_coreRows_14 : decode cX0_coreRows 14 = .ok (.invokevirtual 445, 3) := dk_182 1 189 (dk_at dksX0_coreRows_0 14 rfl rfl)
theorem dX0_coreRows_17 : decode cX0_coreRows 17 = .ok (.ifCond .eq 7, 3) := dk_153 0 7 (dk_at dksX0_coreRows_0 17 rfl rfl)
theorem dX0_coreRows_20 : decode cX0_coreRows 20 = .ok (.iconst 1, 1) := dk_4 (dk_at dksX0_coreRows_0 20 rfl rfl)
theorem dX0_coreRows_21 : decode cX0_coreRows 21 = .ok (.goto 4, 3) := dk_167 0 4 (dk_at dksX0_coreRows_0 21 rfl rfl)
theorem dX0_coreRows_24 : decode cX0_coreRows 24 = .ok (.iconst 0, 1) := dk_3 (dk_at dksX0_coreRows_1 0 rfl rfl)
theorem dX0_coreRows_25 : decode cX0_coreRows 25 = .ok (.iadd, 1) := dk_96 (dk_at dksX0_coreRows_1 1 rfl rfl)
theorem dX0_coreRows_26 : decode cX0_coreRows 26 = .ok (.istore_n 1, 1) := dk_60 (dk_at dksX0_coreRows_1 2 rfl rfl)
theorem dX0_coreRows_27 : decode cX0_coreRows 27 = .ok (.iinc 2 1, 3) := dk_132 2 1 (dk_at dksX0_coreRows_1 3 rfl rfl)
theorem dX0_coreRows_30 : decode cX0_coreRows 30 = .ok (.goto (-26), 3) := dk_167 255 230 (dk_at dksX0_coreRows_1 6 rfl rfl)
theorem dX0_coreRows_33 : decode cX0_coreRows 33 = .ok (.iload_n 1, 1) := dk_27 (dk_at dksX0_coreRows_1 9 rfl rfl)
theorem dX0_coreRows_34 : decode cX0_coreRows 34 = .ok (.ireturn, 1) := dk_172 (dk_at dksX0_coreRows_1 10 rfl rfl)
abbrev cX0_inCore : ByteArray := prog_1_method_64_code
def yX0_inCore : MethodName := ⟨RX0, "inCore", "(I)Z"⟩
def dkwX0_inCore_1 : List UInt8 := [4, 167, 0, 4, 3, 172]
abbrev dktX0_inCore_1 : List UInt8 := dkwX0_inCore_1 ++ []
def dkwX0_inCore_0 : List UInt8 := [42, 180, 0, 54, 180, 1, 186, 27, 16, 6, 122, 47, 27, 16, 63, 126, 123, 10, 127, 10, 148, 154, 0, 7]
abbrev dktX0_inCore_0 : List UInt8 := dkwX0_inCore_0 ++ dktX0_inCore_1
theorem dksX0_inCore_0 : cX0_inCore.data.toList.drop 0 = dktX0_inCore_0 := by decide +kernel
theorem dksX0_inCore_1 : cX0_inCore.data.toList.drop 24 = dktX0_inCore_1 := dk_seg dksX0_inCore_0 24 rfl rfl
theorem dX0_inCore_0 : decode cX0_inCore 0 = .ok (.aload_n 0, 1) := dk_42 (dk_at dksX0_inCore_0 0 rfl rfl)
theorem dX0_inCore_1 : decode cX0_inCore 1 = .ok (.getfield 54, 3) := dk_180 0 54 (dk_at dksX0_inCore_0 1 rfl rfl)
theorem dX0_inCore_4 : decode cX0_inCore 4 = .ok (.getfield 442, 3) := dk_180 1 186 (dk_at dksX0_inCore_0 4 rfl rfl)
theorem dX0_inCore_7 : decode cX0_inCore 7 = .ok (.iload_n 1, 1) := dk_27 (dk_at dksX0_inCore_0 7 rfl rfl)
theorem dX0_inCore_8 : decode cX0_inCore 8 = .ok (.bipush 6, 2) := dk_16 6 (dk_at dksX0_inCore_0 8 rfl rfl)
theorem dX0_inCore_10 : decode cX0_inCore 10 = .ok (.ishr, 1) := dk_122 (dk_at dksX0_inCore_0 10 rfl rfl)
theorem dX0_inCore_11 : decode cX0_inCore 11 = .ok (.laload, 1) := dk_47 (dk_at dksX0_inCore_0 11 rfl rfl)
theorem dX0_inCore_12 : decode cX0_inCore 12 = .ok (.iload_n 1, 1) := dk_27 (dk_at dksX0_inCore_0 12 rfl rfl)
theorem dX0_inCore_13 : decode cX0_inCore 13 = .ok (.bipush 63, 2) := dk_16 63 (dk_at dksX0_inCore_0 13 rfl rfl)
theorem dX0_inCore_15 : decode cX0_inCore 15 = .ok (.iand, 1) := dk_126 (dk_at dksX0_inCore_0 15 rfl rfl)
theorem dX0_inCore_16 : decode cX0_inCore 16 = .ok (.lshr, 1) := dk_123 (dk_at dksX0_inCore_0 16 rfl rfl)
theorem dX0_inCore_17 : decode cX0_inCore 17 = .ok (.lconst 1, 1) := dk_10 (dk_at dksX0_inCore_0 17 rfl rfl)
theorem dX0_inCore_18 : decode cX0_inCore 18 = .ok (.land, 1) := dk_127 (dk_at dksX0_inCore_0 18 rfl rfl)
theorem dX0_inCore_19 : decode cX0_inCore 19 = .ok (.lconst 1, 1) := dk_10 (dk_at dksX0_inCore_0 19 rfl rfl)
theorem dX0_inCore_20 : decode cX0_inCore 20 = .ok (.lcmp, 1) := dk_148 (dk_at dksX0_inCore_0 20 rfl rfl)
theorem dX0_inCore_21 : decode cX0_inCore 21 = .ok (.ifCond .ne 7, 3) := dk_154 0 7 (dk_at dksX0_inCore_0 21 rfl rfl)
theorem dX0_inCore_24 : decode cX0_inCore 24 = .ok (.iconst 1, 1) := dk_4 (dk_at dksX0_inCore_1 0 rfl rfl)
theorem dX0_inCore_25 : decode cX0_inCore 25 = .ok (.goto 4, 3) := dk_167 0 4 (dk_at dksX0_inCore_1 1 rfl rfl)
theorem dX0_inCore_28 : decode cX0_inCore 28 = .ok (.iconst 0, 1) := dk_3 (dk_at dksX0_inCore_1 4 rfl rfl)
theorem dX0_inCore_29 : decode cX0_inCore 29 = .ok (.ireturn, 1) := dk_172 (dk_at dksX0_inCore_1 5 rfl rfl)
abbrev cX0_coreAt : ByteArray := prog_1_method_67_code
def yX0_coreAt : MethodName := ⟨RX0, "coreAt", "(II)I"⟩
def dkwX0_coreAt_4 : List UInt8 := [153, 0, 14, 29, 28, 160, 0, 6, 21, 4, 172, 132, 3, 1, 132, 4, 1, 167, 255, 225, 17, 252, 19, 172]
abbrev dktX0_coreAt_4 : List UInt8 := dkwX0_coreAt_4 ++ []
def dkwX0_coreAt_3 : List UInt8 := [17, 252, 19, 172, 3, 62, 3, 54, 4, 21, 4, 17, 1, 244, 162, 0, 29, 42, 21, 4, 182, 1, 189]
abbrev dktX0_coreAt_3 : List UInt8 := dkwX0_coreAt_3 ++ dktX0_coreAt_4
def dkwX0_coreAt_2 : List UInt8 := [180, 1, 199, 4, 100, 133, 184, 0, 109, 153, 0, 15, 42, 180, 0, 54, 180, 1, 202, 28, 46, 167, 0, 6]
abbrev dktX0_coreAt_2 : List UInt8 := dkwX0_coreAt_2 ++ dktX0_coreAt_3
def dkwX0_coreAt_1 : List UInt8 := [154, 0, 11, 42, 17, 252, 22, 182, 0, 124, 172, 27, 4, 160, 0, 38, 28, 133, 9, 42, 180, 0, 54]
abbrev dktX0_coreAt_1 : List UInt8 := dkwX0_coreAt_1 ++ dktX0_coreAt_2
def dkwX0_coreAt_0 : List UInt8 := [27, 133, 9, 10, 184, 0, 109, 154, 0, 11, 42, 17, 252, 23, 182, 0, 124, 172, 42, 182, 1, 192]
abbrev dktX0_coreAt_0 : List UInt8 := dkwX0_coreAt_0 ++ dktX0_coreAt_1
theorem dksX0_coreAt_0 : cX0_coreAt.data.toList.drop 0 = dktX0_coreAt_0 := by decide +kernel
theorem dksX0_coreAt_1 : cX0_coreAt.data.toList.drop 22 = dktX0_coreAt_1 := dk_seg dksX0_coreAt_0 22 rfl rfl
theorem dksX0_coreAt_2 : cX0_coreAt.data.toList.drop 45 = dktX0_coreAt_2 := dk_seg dksX0_coreAt_1 23 rfl rfl
theorem dksX0_coreAt_3 : cX0_coreAt.data.toList.drop 69 = dktX0_coreAt_3 := dk_seg dksX0_coreAt_2 24 rfl rfl
theorem dksX0_coreAt_4 : cX0_coreAt.data.toList.drop 92 = dktX0_coreAt_4 := dk_seg dksX0_coreAt_3 23 rfl rfl
theorem dX0_coreAt_0 : decode cX0_coreAt 0 = .ok (.iload_n 1, 1) := dk_27 (dk_at dksX0_coreAt_0 0 rfl rfl)
theorem dX0_coreAt_1 : decode cX0_coreAt 1 = .ok (.i2l, 1) := dk_133 (dk_at dksX0_coreAt_0 1 rfl rfl)
theorem dX0_coreAt_2 : decode cX0_coreAt 2 = .ok (.lconst 0, 1) := dk_9 (dk_at dksX0_coreAt_0 2 rfl rfl)
theorem dX0_coreAt_3 : decode cX0_coreAt 3 = .ok (.lconst 1, 1) := dk_10 (dk_at dksX0_coreAt_0 3 rfl rfl)
theorem dX0_coreAt_4 : decode cX0_coreAt 4 = .ok (.invokestatic 109, 3) := dk_184 0 109 (dk_at dksX0_coreAt_0 4 rfl rfl)
theorem dX0_coreAt_7 : decode cX0_coreAt 7 = .ok (.ifCond .ne 11, 3) := dk_154 0 11 (dk_at dksX0_coreAt_0 7 rfl rfl)
theorem dX0_coreAt_10 : decode cX0_coreAt 10 = .ok (.aload_n 0, 1) := dk_42 (dk_at dksX0_coreAt_0 10 rfl rfl)
theorem dX0_coreAt_11 : decode cX0_coreAt 11 = .ok (.sipush (-1001), 3) := dk_17 252 23 (dk_at dksX0_coreAt_0 11 rfl rfl)
theorem dX0_coreAt_14 : decode cX0_coreAt 14 = .ok (.invokevirtual 124, 3) := dk_182 0 124 (dk_at dksX0_coreAt_0 14 rfl rfl)
theorem dX0_coreAt_17 : decode cX0_coreAt 17 = .ok (.ireturn, 1) := dk_172 (dk_at dksX0_coreAt_0 17 rfl rfl)
theorem dX0_coreAt_18 : decode cX0_coreAt 18 = .ok (.aload_n 0, 1) := dk_42 (dk_at dksX0_coreAt_0 18 rfl rfl)
theorem dX0_coreAt_19 : decode cX0_coreAt 19 = .ok (.invokevirtual 448, 3) := dk_182 1 192 (dk_at dksX0_coreAt_0 19 rfl rfl)
theorem dX0_coreAt_22 : decode cX0_coreAt 22 = .ok (.ifCond .ne 11, 3) := dk_154 0 11 (dk_at dksX0_coreAt_1 0 rfl rfl)
theorem dX0_coreAt_25 : decode cX0_coreAt 25 = .ok (.aload_n 0, 1) := dk_42 (dk_at dksX0_coreAt_1 3 rfl rfl)
theorem dX0_coreAt_26 : decode cX0_coreAt 26 = .ok (.sipush (-1002), 3) := dk_17 252 22 (dk_at dksX0_coreAt_1 4 rfl rfl)
theorem dX0_coreAt_29 : decode cX0_coreAt 29 = .ok (.invokevirtual 124, 3) := dk_182 0 124 (dk_at dksX0_coreAt_1 7 rfl rfl)
theorem dX0_coreAt_32 : decode cX0_coreAt 32 = .ok (.ireturn, 1) := dk_172 (dk_at dksX0_coreAt_1 10 rfl rfl)
theorem dX0_coreAt_33 : decode cX0_coreAt 33 = .ok (.iload_n 1, 1) := dk_27 (dk_at dksX0_coreAt_1 11 rfl rfl)
theorem dX0_coreAt_34 : decode cX0_coreAt 34 = .ok (.iconst 1, 1) := dk_4 (dk_at dksX0_coreAt_1 12 rfl rfl)
theorem dX0_coreAt_35 : decode cX0_coreAt 35 = .ok (.if_icmp .ne 38, 3) := dk_160 0 38 (dk_at dksX0_coreAt_1 13 rfl rfl)
theorem dX0_coreAt_38 : decode cX0_coreAt 38 = .ok (.iload_n 2, 1) := dk_28 (dk_at dksX0_coreAt_1 16 rfl rfl)
theorem dX0_coreAt_39 : decode cX0_coreAt 39 = .ok (.i2l, 1) := dk_133 (dk_at dksX0_coreAt_1 17 rfl rfl)
theorem dX0_coreAt_40 : decode cX0_coreAt 40 = .ok (.lconst 0, 1) := dk_9 (dk_at dksX0_coreAt_1 18 rfl rfl)
theorem dX0_coreAt_41 : decode cX0_coreAt 41 = .ok (.aload_n 0, 1) := dk_42 (dk_at dksX0_coreAt_1 19 rfl rfl)
theorem dX0_coreAt_42 : decode cX0_coreAt 42 = .ok (.getfield 54, 3) := dk_180 0 54 (dk_at dksX0_coreAt_1 20 rfl rfl)
theorem dX0_coreAt_45 : decode cX0_coreAt 45 = .ok (.getfield 455, 3) := dk_180 1 199 (dk_at dksX0_coreAt_2 0 rfl rfl)
theorem dX0_coreAt_48 : decode cX0_coreAt 48 = .ok (.iconst 1, 1) := dk_4 (dk_at dksX0_coreAt_2 3 rfl rfl)
theorem dX0_coreAt_49 : decode cX0_coreAt 49 = .ok (.isub, 1) := dk_100 (dk_at dksX0_coreAt_2 4 rfl rfl)
theorem dX0_coreAt_50 : decode cX0_coreAt 50 = .ok (.i2l, 1) := dk_133 (dk_at dksX0_coreAt_2 5 rfl rfl)
theorem dX0_coreAt_51 : decode cX0_coreAt 51 = .ok (.invokestatic 109, 3) := dk_184 0 109 (dk_at dksX0_coreAt_2 6 rfl rfl)
theorem dX0_coreAt_54 : decode cX0_coreAt 54 = .ok (.ifCond .eq 15, 3) := dk_153 0 15 (dk_at dksX0_coreAt_2 9 rfl rfl)
theorem dX0_coreAt_57 : decode cX0_coreAt 57 = .ok (.aload_n 0, 1) := dk_42 (dk_at dksX0_coreAt_2 12 rfl rfl)
theorem dX0_coreAt_58 : decode cX0_coreAt 58 = .ok (.getfield 54, 3) := dk_180 0 54 (dk_at dksX0_coreAt_2 13 rfl rfl)
theorem dX0_coreAt_61 : decode cX0_coreAt 61 = .ok (.getfield 458, 3) := dk_180 1 202 (dk_at dksX0_coreAt_2 16 rfl rfl)
theorem dX0_coreAt_64 : decode cX0_coreAt 64 = .ok (.iload_n 2, 1) := dk_28 (dk_at dksX0_coreAt_2 19 rfl rfl)
theorem dX0_coreAt_65 : decode cX0_coreAt 65 = .ok (.iaload, 1) := dk_46 (dk_at dksX0_coreAt_2 20 rfl rfl)
theorem dX0_coreAt_66 : decode cX0_coreAt 66 = .ok (.goto 6, 3) := dk_167 0 6 (dk_at dksX0_coreAt_2 21 rfl rfl)
theorem dX0_coreAt_69 : decode cX0_coreAt 69 = .ok (.sipush (-1005), 3) := dk_17 252 19 (dk_at dksX0_coreAt_3 0 rfl rfl)
theorem dX0_coreAt_72 : decode cX0_coreAt 72 = .ok (.ireturn, 1) := dk_172 (dk_at dksX0_coreAt_3 3 rfl rfl)
theorem dX0_coreAt_73 : decode cX0_coreAt 73 = .ok (.iconst 0, 1) := dk_3 (dk_at dksX0_coreAt_3 4 rfl rfl)
theorem dX0_coreAt_74 : decode cX0_coreAt 74 = .ok (.istore_n 3, 1) := dk_62 (dk_at dksX0_coreAt_3 5 rfl rfl)
theorem dX0_coreAt_75 : decode cX0_coreAt 75 = .ok (.iconst 0, 1) := dk_3 (dk_at dksX0_coreAt_3 6 rfl rfl)
theorem dX0_coreAt_76 : decode cX0_coreAt 76 = .ok (.istore 4, 2) := dk_54 4 (dk_at dksX0_coreAt_3 7 rfl rfl)
theorem dX0_coreAt_78 : decode cX0_coreAt 78 = .ok (.iload 4, 2) := dk_21 4 (dk_at dksX0_coreAt_3 9 rfl rfl)
theorem dX0_coreAt_80 : decode cX0_coreAt 80 = .ok (.sipush 500, 3) := dk_17 1 244 (dk_at dksX0_coreAt_3 11 rfl rfl)
theorem dX0_coreAt_83 : decode cX0_coreAt 83 = .ok (.if_icmp .ge 29, 3) := dk_162 0 29 (dk_at dksX0_coreAt_3 14 rfl rfl)
theorem dX0_coreAt_86 : decode cX0_coreAt 86 = .ok (.aload_n 0, 1) := dk_42 (dk_at dksX0_coreAt_3 17 rfl rfl)
theorem dX0_coreAt_87 : decode cX0_coreAt 87 = .ok (.iload 4, 2) := dk_21 4 (dk_at dksX0_coreAt_3 18 rfl rfl)
theorem dX0_coreAt_89 : decode cX0_coreAt 89 = .ok (.invokevirtual 445, 3) := dk_182 1 189 (dk_at dksX0_coreAt_3 20 rfl rfl)
theorem dX0_coreAt_92 : decode cX0_coreAt 92 = .ok (.ifCond .eq 14, 3) := dk_153 0 14 (dk_at dksX0_coreAt_4 0 rfl rfl)
theorem dX0_coreAt_95 : decode cX0_coreAt 95 = .ok (.iload_n 3, 1) := dk_29 (dk_at dksX0_coreAt_4 3 rfl rfl)
theorem dX0_coreAt_96 : decode cX0_coreAt 96 = .ok (.iload_n 2, 1) := dk_28 (dk_at dksX0_coreAt_4 4 rfl rfl)
theorem dX0_coreAt_97 : decode cX0_coreAt 97 = .ok (.if_icmp .ne 6, 3) := dk_160 0 6 (dk_at dksX0_coreAt_4 5 rfl rfl)
theorem dX0_coreAt_100 : decode cX0_coreAt 100 = .ok (.iload 4, 2) := dk_21 4 (dk_at dksX0_coreAt_4 8 rfl rfl)
theorem dX0_coreAt_102 : decode cX0_coreAt 102 = .ok (.ireturn, 1) := dk_172 (dk_at dksX0_coreAt_4 10 rfl rfl)
theorem dX0_coreAt_103 : decode cX0_coreAt 103 = .ok (.iinc 3 1, 3) := dk_132 3 1 (dk_at dksX0_coreAt_4 11 rfl rfl)
theorem dX0_coreAt_106 : decode cX0_coreAt 106 = .ok (.iinc 4 1, 3) := dk_132 4 1 (dk_at dksX0_coreAt_4 14 rfl rfl)
theorem dX0_coreAt_109 : decode cX0_coreAt 109 = .ok (.goto (-31), 3) := dk_167 255 225 (dk_at dksX0_coreAt_4 17 rfl rfl)
theorem dX0_coreAt_112 : decode cX0_coreAt 112 = .ok (.sipush (-1005), 3) := dk_17 252 19 (dk_at dksX0_coreAt_4 20 rfl rfl)
theorem dX0_coreAt_115 : decode cX0_coreAt 115 = .ok (.ireturn, 1) := dk_172 (dk_at dksX0_coreAt_4 23 rfl rfl)
abbrev cX0_shrink : ByteArray := prog_1_method_70_code
def yX0_shrink : MethodName := ⟨RX0, "shrink", "(I)I"⟩
def dkwX0_shrink_11 : List UInt8 := [172]
abbrev dktX0_shrink_11 : List UInt8 := dkwX0_shrink_11 ++ []
def dkwX0_shrink_10 : List UInt8 := [184, 0, 144, 167, 0, 6, 132, 3, 1, 167, 255, 152, 42, 182, 1, 196, 42, 180, 0, 54, 180, 1, 199, 96]
abbrev dktX0_shrink_10 : List UInt8 := dkwX0_shrink_10 ++ dktX0_shrink_11
def dkwX0_shrink_9 : List UInt8 := [180, 1, 202, 29, 4, 96, 42, 180, 0, 54, 180, 1, 202, 29, 42, 180, 0, 54, 180, 1, 199, 29, 100]
abbrev dktX0_shrink_9 : List UInt8 := dkwX0_shrink_9 ++ dktX0_shrink_10
def dkwX0_shrink_8 : List UInt8 := [61, 21, 4, 154, 0, 49, 42, 180, 0, 54, 89, 180, 1, 199, 4, 100, 181, 1, 199, 42, 180, 0, 54]
abbrev dktX0_shrink_8 : List UInt8 := dkwX0_shrink_8 ++ dktX0_shrink_9
def dkwX0_shrink_7 : List UInt8 := [17, 252, 20, 159, 0, 11, 21, 4, 17, 252, 21, 160, 0, 6, 21, 4, 172, 42, 180, 0, 58, 180, 1, 211]
abbrev dktX0_shrink_7 : List UInt8 := dkwX0_shrink_7 ++ dktX0_shrink_8
def dkwX0_shrink_6 : List UInt8 := [42, 180, 0, 54, 180, 1, 199, 162, 0, 99, 42, 182, 1, 205, 42, 29, 28, 182, 1, 208, 54, 4, 21, 4]
abbrev dktX0_shrink_6 : List UInt8 := dkwX0_shrink_6 ++ dktX0_shrink_7
def dkwX0_shrink_5 : List UInt8 := [122, 92, 47, 10, 29, 16, 63, 126, 121, 20, 1, 214, 131, 127, 80, 132, 3, 1, 167, 255, 157, 3, 62, 29]
abbrev dktX0_shrink_5 : List UInt8 := dkwX0_shrink_5 ++ dktX0_shrink_6
def dkwX0_shrink_4 : List UInt8 := [172, 42, 180, 0, 58, 180, 1, 211, 61, 21, 4, 154, 0, 28, 42, 180, 0, 54, 180, 1, 186, 29, 16, 6]
abbrev dktX0_shrink_4 : List UInt8 := dkwX0_shrink_4 ++ dktX0_shrink_5
def dkwX0_shrink_3 : List UInt8 := [28, 182, 1, 208, 54, 4, 21, 4, 17, 252, 20, 159, 0, 11, 21, 4, 17, 252, 21, 160, 0, 6, 21, 4]
abbrev dktX0_shrink_3 : List UInt8 := dkwX0_shrink_3 ++ dktX0_shrink_4
def dkwX0_shrink_2 : List UInt8 := [182, 1, 189, 154, 0, 6, 167, 0, 81, 42, 182, 1, 205, 42, 180, 0, 77, 29, 4, 84, 42, 17, 252, 19]
abbrev dktX0_shrink_2 : List UInt8 := dkwX0_shrink_2 ++ dktX0_shrink_3
def dkwX0_shrink_1 : List UInt8 := [154, 0, 11, 42, 17, 252, 22, 182, 0, 124, 172, 27, 61, 3, 62, 29, 17, 1, 244, 162, 0, 98, 42, 29]
abbrev dktX0_shrink_1 : List UInt8 := dkwX0_shrink_1 ++ dktX0_shrink_2
def dkwX0_shrink_0 : List UInt8 := [27, 133, 10, 20, 1, 113, 184, 0, 109, 154, 0, 11, 42, 17, 252, 23, 182, 0, 124, 172, 42, 182, 1, 192]
abbrev dktX0_shrink_0 : List UInt8 := dkwX0_shrink_0 ++ dktX0_shrink_1
theorem dksX0_shrink_0 : cX0_shrink.data.toList.drop 0 = dktX0_shrink_0 := by decide +kernel
theorem dksX0_shrink_1 : cX0_shrink.data.toList.drop 24 = dktX0_shrink_1 := dk_seg dksX0_shrink_0 24 rfl rfl
theorem dksX0_shrink_2 : cX0_shrink.data.toList.drop 48 = dktX0_shrink_2 := dk_seg dksX0_shrink_1 24 rfl rfl
theorem dksX0_shrink_3 : cX0_shrink.data.toList.drop 72 = dktX0_shrink_3 := dk_seg dksX0_shrink_2 24 rfl rfl
theorem dksX0_shrink_4 : cX0_shrink.data.toList.drop 96 = dktX0_shrink_4 := dk_seg dksX0_shrink_3 24 rfl rfl
theorem dksX0_shrink_5 : cX0_shrink.data.toList.drop 120 = dktX0_shrink_5 := dk_seg dksX0_shrink_4 24 rfl rfl
theorem dksX0_shrink_6 : cX0_shrink.data.toList.drop 144 = dktX0_shrink_6 := dk_seg dksX0_shrink_5 24 rfl rfl
theorem dksX0_shrink_7 : cX0_shrink.data.toList.drop 168 = dktX0_shrink_7 := dk_seg dksX0_shrink_6 24 rfl rfl
theorem dksX0_shrink_8 : cX0_shrink.data.toList.drop 192 = dktX0_shrink_8 := dk_seg dksX0_shrink_7 24 rfl rfl
theorem dksX0_shrink_9 : cX0_shrink.data.toList.drop 215 = dktX0_shrink_9 := dk_seg dksX0_shrink_8 23 rfl rfl
theorem dksX0_shrink_10 : cX0_shrink.data.toList.drop 238 = dktX0_shrink_10 := dk_seg dksX0_shrink_9 23 rfl rfl
theorem dksX0_shrink_11 : cX0_shrink.data.toList.drop 262 = dktX0_shrink_11 := dk_seg dksX0_shrink_10 24 rfl rfl
theorem dX0_shrink_0 : decode cX0_shrink 0 = .ok (.iload_n 1, 1) := dk_27 (dk_at dksX0_shrink_0 0 rfl rfl)
theorem dX0_shrink_1 : decode cX0_shrink 1 = .ok (.i2l, 1) := dk_133 (dk_at dksX0_shrink_0 1 rfl rfl)
theorem dX0_shrink_2 : decode cX0_shrink 2 = .ok (.lconst 1, 1) := dk_10 (dk_at dksX0_shrink_0 2 rfl rfl)
theorem dX0_shrink_3 : decode cX0_shrink 3 = .ok (.ldc2_w 369, 3) := dk_20 1 113 (dk_at dksX0_shrink_0 3 rfl rfl)
theorem dX0_shrink_6 : decode cX0_shrink 6 = .ok (.invokestatic 109, 3) := dk_184 0 109 (dk_at dksX0_shrink_0 6 rfl rfl)
theorem dX0_shrink_9 : decode cX0_shrink 9 = .ok (.ifCond .ne 11, 3) := dk_154 0 11 (dk_at dksX0_shrink_0 9 rfl rfl)
theorem dX0_shrink_12 : decode cX0_shrink 12 = .ok (.aload_n 0, 1) := dk_42 (dk_at dksX0_shrink_0 12 rfl rfl)
theorem dX0_shrink_13 : decode cX0_shrink 13 = .ok (.sipush (-1001), 3) := dk_17 252 23 (dk_at dksX0_shrink_0 13 rfl rfl)
theorem dX0_shrink_16 : decode cX0_shrink 16 = .ok (.invokevirtual 124, 3) := dk_182 0 124 (dk_at dksX0_shrink_0 16 rfl rfl)
theorem dX0_shrink_19 : decode cX0_shrink 19 = .ok (.ireturn, 1) := dk_172 (dk_at dksX0_shrink_0 19 rfl rfl)
theorem dX0_shrink_20 : decode cX0_shrink 20 = .ok (.aload_n 0, 1) := dk_42 (dk_at dksX0_shrink_0 20 rfl rfl)
theorem dX0_shrink_21 : decode cX0_shrink 21 = .ok (.invokevirtual 448, 3) := dk_182 1 192 (dk_at dksX0_shrink_0 21 rfl rfl)
theorem dX0_shrink_24 : decode cX0_shrink 24 = .ok (.ifCond .ne 11, 3) := dk_154 0 11 (dk_at dksX0_shrink_1 0 rfl rfl)
theorem dX0_shrink_27 : decode cX0_shrink 27 = .ok (.aload_n 0, 1) := dk_42 (dk_at dksX0_shrink_1 3 rfl rfl)
theorem dX0_shrink_28 : decode cX0_shrink 28 = .ok (.sipush (-1002), 3) := dk_17 252 22 (dk_at dksX0_shrink_1 4 rfl rfl)
theorem dX0_shrink_31 : decode cX0_shrink 31 = .ok (.invokevirtual 124, 3) := dk_182 0 124 (dk_at dksX0_shrink_1 7 rfl rfl)
theorem dX0_shrink_34 : decode cX0_shrink 34 = .ok (.ireturn, 1) := dk_172 (dk_at dksX0_shrink_1 10 rfl rfl)
theorem dX0_shrink_35 : decode cX0_shrink 35 = .ok (.iload_n 1, 1) := dk_27 (dk_at dksX0_shrink_1 11 rfl rfl)
theorem dX0_shrink_36 : decode cX0_shrink 36 = .ok (.istore_n 2, 1) := dk_61 (dk_at dksX0_shrink_1 12 rfl rfl)
theorem dX0_shrink_37 : decode cX0_shrink 37 = .ok (.iconst 0, 1) := dk_3 (dk_at dksX0_shrink_1 13 rfl rfl)
theorem dX0_shrink_38 : decode cX0_shrink 38 = .ok (.istore_n 3, 1) := dk_62 (dk_at dksX0_shrink_1 14 rfl rfl)
theorem dX0_shrink_39 : decode cX0_shrink 39 = .ok (.iload_n 3, 1) := dk_29 (dk_at dksX0_shrink_1 15 rfl rfl)
theorem dX0_shrink_40 : decode cX0_shrink 40 = .ok (.sipush 500, 3) := dk_17 1 244 (dk_at dksX0_shrink_1 16 rfl rfl)
theorem dX0_shrink_43 : decode cX0_shrink 43 = .ok (.if_icmp .ge 98, 3) := dk_162 0 98 (dk_at dksX0_shrink_1 19 rfl rfl)
theorem dX0_shrink_46 : decode cX0_shrink 46 = .ok (.aload_n 0, 1) := dk_42 (dk_at dksX0_shrink_1 22 rfl rfl)
theorem dX0_shrink_47 : decode cX0_shrink 47 = .ok (.iload_n 3, 1) := dk_29 (dk_at dksX0_shrink_1 23 rfl rfl)
theorem dX0_shrink_48 : decode cX0_shrink 48 = .ok (.invokevirtual 445, 3) := dk_182 1 189 (dk_at dksX0_shrink_2 0 rfl rfl)
theorem dX0_shrink_51 : decode cX0_shrink 51 = .ok (.ifCond .ne 6, 3) := dk_154 0 6 (dk_at dksX0_shrink_2 3 rfl rfl)
theorem dX0_shrink_54 : decode cX0_shrink 54 = .ok (.goto 81, 3) := dk_167 0 81 (dk_at dksX0_shrink_2 6 rfl rfl)
theorem dX0_shrink_57 : decode cX0_shrink 57 = .ok (.aload_n 0, 1) := dk_42 (dk_at dksX0_shrink_2 9 rfl rfl)
theorem dX0_shrink_58 : decode cX0_shrink 58 = .ok (.invokevirtual 461, 3) := dk_182 1 205 (dk_at dksX0_shrink_2 10 rfl rfl)
theorem dX0_shrink_61 : decode cX0_shrink 61 = .ok (.aload_n 0, 1) := dk_42 (dk_at dksX0_shrink_2 13 rfl rfl)
theorem dX0_shrink_62 : decode cX0_shrink 62 = .ok (.getfield 77, 3) := dk_180 0 77 (dk_at dksX0_shrink_2 14 rfl rfl)
theorem dX0_shrink_65 : decode cX0_shrink 65 = .ok (.iload_n 3, 1) := dk_29 (dk_at dksX0_shrink_2 17 rfl rfl)
theorem dX0_shrink_66 : decode cX0_shrink 66 = .ok (.iconst 1, 1) := dk_4 (dk_at dksX0_shrink_2 18 rfl rfl)
theorem dX0_shrink_67 : decode cX0_shrink 67 = .ok (.bastore, 1) := dk_84 (dk_at dksX0_shrink_2 19 rfl rfl)
theorem dX0_shrink_68 : decode cX0_shrink 68 = .ok (.aload_n 0, 1) := dk_42 (dk_at dksX0_shrink_2 20 rfl rfl)
theorem dX0_shrink_69 : decode cX0_shrink 69 = .ok (.sipush (-1005), 3) := dk_17 252 19 (dk_at dksX0_shrink_2 21 rfl rfl)
theorem dX0_shrink_72 : decode cX0_shrink 72 = .ok (.iload_n 2, 1) := dk_28 (dk_at dksX0_shrink_3 0 rfl rfl)
theorem dX0_shrink_73 : decode cX0_shrink 73 = .ok (.invokevirtual 464, 3) := dk_182 1 208 (dk_at dksX0_shrink_3 1 rfl rfl)
theorem dX0_shrink_76 : decode cX0_shrink 76 = .ok (.istore 4, 2) := dk_54 4 (dk_at dksX0_shrink_3 4 rfl rfl)
theorem dX0_shrink_78 : decode cX0_shrink 78 = .ok (.iload 4, 2) := dk_21 4 (dk_at dksX0_shrink_3 6 rfl rfl)
theorem dX0_shrink_80 : decode cX0_shrink 80 = .ok (.sipush (-1004), 3) := dk_17 252 20 (dk_at dksX0_shrink_3 8 rfl rfl)
theorem dX0_shrink_83 : decode cX0_shrink 83 = .ok (.if_icmp .eq 11, 3) := dk_159 0 11 (dk_at dksX0_shrink_3 11 rfl rfl)
theorem dX0_shrink_86 : decode cX0_shrink 86 = .ok (.iload 4, 2) := dk_21 4 (dk_at dksX0_shrink_3 14 rfl rfl)
theorem dX0_shrink_88 : decode cX0_shrink 88 = .ok (.sipush (-1003), 3) := dk_17 252 21 (dk_at dksX0_shrink_3 16 rfl rfl)
theorem dX0_shrink_91 : decode cX0_shrink 91 = .ok (.if_icmp .ne 6, 3) := dk_160 0 6 (dk_at dksX0_shrink_3 19 rfl rfl)
theorem dX0_shrink_94 : decode cX0_shrink 94 = .ok (.iload 4, 2) := dk_21 4 (dk_at dksX0_shrink_3 22 rfl rfl)
theorem dX0_shrink_96 : decode cX0_shrink 96 = .ok (.ireturn, 1) := dk_172 (dk_at dksX0_shrink_4 0 rfl rfl)
theorem dX0_shrink_97 : decode cX0_shrink 97 = .ok (.aload_n 0, 1) := dk_42 (dk_at dksX0_shrink_4 1 rfl rfl)
theorem dX0_shrink_98 : decode cX0_shrink 98 = .ok (.getfield 58, 3) := dk_180 0 58 (dk_at dksX0_shrink_4 2 rfl rfl)
theorem dX0_shrink_101 : decode cX0_shrink 101 = .ok (.getfield 467, 3) := dk_180 1 211 (dk_at dksX0_shrink_4 5 rfl rfl)
theorem dX0_shrink_104 : decode cX0_shrink 104 = .ok (.istore_n 2, 1) := dk_61 (dk_at dksX0_shrink_4 8 rfl rfl)
theorem dX0_shrink_105 : decode cX0_shrink 105 = .ok (.iload 4, 2) := dk_21 4 (dk_at dksX0_shrink_4 9 rfl rfl)
theorem dX0_shrink_107 : decode cX0_shrink 107 = .ok (.ifCond .ne 28, 3) := dk_154 0 28 (dk_at dksX0_shrink_4 11 rfl rfl)
theorem dX0_shrink_110 : decode cX0_shrink 110 = .ok (.aload_n 0, 1) := dk_42 (dk_at dksX0_shrink_4 14 rfl rfl)
theorem dX0_shrink_111 : decode cX0_shrink 111 = .ok (.getfield 54, 3) := dk_180 0 54 (dk_at dksX0_shrink_4 15 rfl rfl)
theorem dX0_shrink_114 : decode cX0_shrink 114 = .ok (.getfield 442, 3) := dk_180 1 186 (dk_at dksX0_shrink_4 18 rfl rfl)
theorem dX0_shrink_117 : decode cX0_shrink 117 = .ok (.iload_n 3, 1) := dk_29 (dk_at dksX0_shrink_4 21 rfl rfl)
theorem dX0_shrink_118 : decode cX0_shrink 118 = .ok (.bipush 6, 2) := dk_16 6 (dk_at dksX0_shrink_4 22 rfl rfl)
theorem dX0_shrink_120 : decode cX0_shrink 120 = .ok (.ishr, 1) := dk_122 (dk_at dksX0_shrink_5 0 rfl rfl)
theorem dX0_shrink_121 : decode cX0_shrink 121 = .ok (.dup2, 1) := dk_92 (dk_at dksX0_shrink_5 1 rfl rfl)
theorem dX0_shrink_122 : decode cX0_shrink 122 = .ok (.laload, 1) := dk_47 (dk_at dksX0_shrink_5 2 rfl rfl)
theorem dX0_shrink_123 : decode cX0_shrink 123 = .ok (.lconst 1, 1) := dk_10 (dk_at dksX0_shrink_5 3 rfl rfl)
theorem dX0_shrink_124 : decode cX0_shrink 124 = .ok (.iload_n 3, 1) := dk_29 (dk_at dksX0_shrink_5 4 rfl rfl)
theorem dX0_shrink_125 : decode cX0_shrink 125 = .ok (.bipush 63, 2) := dk_16 63 (dk_at dksX0_shrink_5 5 rfl rfl)
theorem dX0_shrink_127 : decode cX0_shrink 127 = .ok (.iand, 1) := dk_126 (dk_at dksX0_shrink_5 7 rfl rfl)
theorem dX0_shrink_128 : decode cX0_shrink 128 = .ok (.lshl, 1) := dk_121 (dk_at dksX0_shrink_5 8 rfl rfl)
theorem dX0_shrink_129 : decode cX0_shrink 129 = .ok (.ldc2_w 470, 3) := dk_20 1 214 (dk_at dksX0_shrink_5 9 rfl rfl)
theorem dX0_shrink_132 : decode cX0_shrink 132 = .ok (.lxor, 1) := dk_131 (dk_at dksX0_shrink_5 12 rfl rfl)
theorem dX0_shrink_133 : decode cX0_shrink 133 = .ok (.land, 1) := dk_127 (dk_at dksX0_shrink_5 13 rfl rfl)
theorem dX0_shrink_134 : decode cX0_shrink 134 = .ok (.lastore, 1) := dk_80 (dk_at dksX0_shrink_5 14 rfl rfl)
theorem dX0_shrink_135 : decode cX0_shrink 135 = .ok (.iinc 3 1, 3) := dk_132 3 1 (dk_at dksX0_shrink_5 15 rfl rfl)
theorem dX0_shrink_138 : decode cX0_shrink 138 = .ok (.goto (-99), 3) := dk_167 255 157 (dk_at dksX0_shrink_5 18 rfl rfl)
theorem dX0_shrink_141 : decode cX0_shrink 141 = .ok (.iconst 0, 1) := dk_3 (dk_at dksX0_shrink_5 21 rfl rfl)
theorem dX0_shrink_142 : decode cX0_shrink 142 = .ok (.istore_n 3, 1) := dk_62 (dk_at dksX0_shrink_5 22 rfl rfl)
theorem dX0_shrink_143 : decode cX0_shrink 143 = .ok (.iload_n 3, 1) := dk_29 (dk_at dksX0_shrink_5 23 rfl rfl)
theorem dX0_shrink_144 : decode cX0_shrink 144 = .ok (.aload_n 0, 1) := dk_42 (dk_at dksX0_shrink_6 0 rfl rfl)
theorem dX0_shrink_145 : decode cX0_shrink 145 = .ok (.getfield 54, 3) := dk_180 0 54 (dk_at dksX0_shrink_6 1 rfl rfl)
theorem dX0_shrink_148 : decode cX0_shrink 148 = .ok (.getfield 455, 3) := dk_180 1 199 (dk_at dksX0_shrink_6 4 rfl rfl)
theorem dX0_shrink_151 : decode cX0_shrink 151 = .ok (.if_icmp .ge 99, 3) := dk_162 0 99 (dk_at dksX0_shrink_6 7 rfl rfl)
theorem dX0_shrink_154 : decode cX0_shrink 154 = .ok (.aload_n 0, 1) := dk_42 (dk_at dksX0_shrink_6 10 rfl rfl)
theorem dX0_shrink_155 : decode cX0_shrink 155 = .ok (.invokevirtual 461, 3) := dk_182 1 205 (dk_at dksX0_shrink_6 11 rfl rfl)
theorem dX0_shrink_158 : decode cX0_shrink 158 = .ok (.aload_n 0, 1) := dk_42 (dk_at dksX0_shrink_6 14 rfl rfl)
theorem dX0_shrink_159 : decode cX0_shrink 159 = .ok (.iload_n 3, 1) := dk_29 (dk_at dksX0_shrink_6 15 rfl rfl)
theorem dX0_shrink_160 : decode cX0_shrink 160 = .ok (.iload_n 2, 1) := dk_28 (dk_at dksX0_shrink_6 16 rfl rfl)
theorem dX0_shrink_161 : decode cX0_shrink 161 = .ok (.invokevirtual 464, 3) := dk_182 1 208 (dk_at dksX0_shrink_6 17 rfl rfl)
theorem dX0_shrink_164 : decode cX0_shrink 164 = .ok (.istore 4, 2) := dk_54 4 (dk_at dksX0_shrink_6 20 rfl rfl)
theorem dX0_shrink_166 : decode cX0_shrink 166 = .ok (.iload 4, 2) := dk_21 4 (dk_at dksX0_shrink_6 22 rfl rfl)
theorem dX0_shrink_168 : decode cX0_shrink 168 = .ok (.sipush (-1004), 3) := dk_17 252 20 (dk_at dksX0_shrink_7 0 rfl rfl)
theorem dX0_shrink_171 : decode cX0_shrink 171 = .ok (.if_icmp .eq 11, 3) := dk_159 0 11 (dk_at dksX0_shrink_7 3 rfl rfl)
theorem dX0_shrink_174 : decode cX0_shrink 174 = .ok (.iload 4, 2) := dk_21 4 (dk_at dksX0_shrink_7 6 rfl rfl)
theorem dX0_shrink_176 : decode cX0_shrink 176 = .ok (.sipush (-1003), 3) := dk_17 252 21 (dk_at dksX0_shrink_7 8 rfl rfl)
theorem dX0_shrink_179 : decode cX0_shrink 179 = .ok (.if_icmp .ne 6, 3) := dk_160 0 6 (dk_at dksX0_shrink_7 11 rfl rfl)
theorem dX0_shrink_182 : decode cX0_shrink 182 = .ok (.iload 4, 2) := dk_21 4 (dk_at dksX0_shrink_7 14 rfl rfl)
theorem dX0_shrink_184 : decode cX0_shrink 184 = .ok (.ireturn, 1) := dk_172 (dk_at dksX0_shrink_7 16 rfl rfl)
theorem dX0_shrink_185 : decode cX0_shrink 185 = .ok (.aload_n 0, 1) := dk_42 (dk_at dksX0_shrink_7 17 rfl rfl)
theorem dX0_shrink_186 : decode cX0_shrink 186 = .ok (.getfield 58, 3) := dk_180 0 58 (dk_at dksX0_shrink_7 18 rfl rfl)
theorem dX0_shrink_189 : decode cX0_shrink 189 = .ok (.getfield 467, 3) := dk_180 1 211 (dk_at dksX0_shrink_7 21 rfl rfl)
theorem dX0_shrink_192 : decode cX0_shrink 192 = .ok (.istore_n 2, 1) := dk_61 (dk_at dksX0_shrink_8 0 rfl rfl)
theorem dX0_shrink_193 : decode cX0_shrink 193 = .ok (.iload 4, 2) := dk_21 4 (dk_at dksX0_shrink_8 1 rfl rfl)
theorem dX0_shrink_195 : decode cX0_shrink 195 = .ok (.ifCond .ne 49, 3) := dk_154 0 49 (dk_at dksX0_shrink_8 3 rfl rfl)
theorem dX0_shrink_198 : decode cX0_shrink 198 = .ok (.aload_n 0, 1) := dk_42 (dk_at dksX0_shrink_8 6 rfl rfl)
theorem dX0_shrink_199 : decode cX0_shrink 199 = .ok (.getfield 54, 3) := dk_180 0 54 (dk_at dksX0_shrink_8 7 rfl rfl)
theorem dX0_shrink_202 : decode cX0_shrink 202 = .ok (.dup, 1) := dk_89 (dk_at dksX0_shrink_8 10 rfl rfl)
theorem dX0_shrink_203 : decode cX0_shrink 203 = .ok (.getfield 455, 3) := dk_180 1 199 (dk_at dksX0_shrink_8 11 rfl rfl)
theorem dX0_shrink_206 : decode cX0_shrink 206 = .ok (.iconst 1, 1) := dk_4 (dk_at dksX0_shrink_8 14 rfl rfl)
theorem dX0_shrink_207 : decode cX0_shrink 207 = .ok (.isub, 1) := dk_100 (dk_at dksX0_shrink_8 15 rfl rfl)
theorem dX0_shrink_208 : decode cX0_shrink 208 = .ok (.putfield 455, 3) := dk_181 1 199 (dk_at dksX0_shrink_8 16 rfl rfl)
theorem dX0_shrink_211 : decode cX0_shrink 211 = .ok (.aload_n 0, 1) := dk_42 (dk_at dksX0_shrink_8 19 rfl rfl)
theorem dX0_shrink_212 : decode cX0_shrink 212 = .ok (.getfield 54, 3) := dk_180 0 54 (dk_at dksX0_shrink_8 20 rfl rfl)
theorem dX0_shrink_215 : decode cX0_shrink 215 = .ok (.getfield 458, 3) := dk_180 1 202 (dk_at dksX0_shrink_9 0 rfl rfl)
theorem dX0_shrink_218 : decode cX0_shrink 218 = .ok (.iload_n 3, 1) := dk_29 (dk_at dksX0_shrink_9 3 rfl rfl)
theorem dX0_shrink_219 : decode cX0_shrink 219 = .ok (.iconst 1, 1) := dk_4 (dk_at dksX0_shrink_9 4 rfl rfl)
theorem dX0_shrink_220 : decode cX0_shrink 220 = .ok (.iadd, 1) := dk_96 (dk_at dksX0_shrink_9 5 rfl rfl)
theorem dX0_shrink_221 : decode cX0_shrink 221 = .ok (.aload_n 0, 1) := dk_42 (dk_at dksX0_shrink_9 6 rfl rfl)
theorem dX0_shrink_222 : decode cX0_shrink 222 = .ok (.getfield 54, 3) := dk_180 0 54 (dk_at dksX0_shrink_9 7 rfl rfl)
theorem dX0_shrink_225 : decode cX0_shrink 225 = .ok (.getfield 458, 3) := dk_180 1 202 (dk_at dksX0_shrink_9 10 rfl rfl)
theorem dX0_shrink_228 : decode cX0_shrink 228 = .ok (.iload_n 3, 1) := dk_29 (dk_at dksX0_shrink_9 13 rfl rfl)
theorem dX0_shrink_229 : decode cX0_shrink 229 = .ok (.aload_n 0, 1) := dk_42 (dk_at dksX0_shrink_9 14 rfl rfl)
theorem dX0_shrink_230 : decode cX0_shrink 230 = .ok (.getfield 54, 3) := dk_180 0 54 (dk_at dksX0_shrink_9 15 rfl rfl)
theorem dX0_shrink_233 : decode cX0_shrink 233 = .ok (.getfield 455, 3) := dk_180 1 199 (dk_at dksX0_shrink_9 18 rfl rfl)
theorem dX0_shrink_236 : decode cX0_shrink 236 = .ok (.iload_n 3, 1) := dk_29 (dk_at dksX0_shrink_9 21 rfl rfl)
theorem dX0_shrink_237 : decode cX0_shrink 237 = .ok (.isub, 1) := dk_100 (dk_at dksX0_shrink_9 22 rfl rfl)
theorem dX0_shrink_238 : decode cX0_shrink 238 = .ok (.invokestatic 144, 3) := dk_184 0 144 (dk_at dksX0_shrink_10 0 rfl rfl)
theorem dX0_shrink_241 : decode cX0_shrink 241 = .ok (.goto 6, 3) := dk_167 0 6 (dk_at dksX0_shrink_10 3 rfl rfl)
theorem dX0_shrink_244 : decode cX0_shrink 244 = .ok (.iinc 3 1, 3) := dk_132 3 1 (dk_at dksX0_shrink_10 6 rfl rfl)
theorem dX0_shrink_247 : decode cX0_shrink 247 = .ok (.goto (-104), 3) := dk_167 255 152 (dk_at dksX0_shrink_10 9 rfl rfl)
theorem dX0_shrink_250 : decode cX0_shrink 250 = .ok (.aload_n 0, 1) := dk_42 (dk_at dksX0_shrink_10 12 rfl rfl)
theorem dX0_shrink_251 : decode cX0_shrink 251 = .ok (.invokevirtual 452, 3) := dk_182 1 196 (dk_at dksX0_shrink_10 13 rfl rfl)
theorem dX0_shrink_254 : decode cX0_shrink 254 = .ok (.aload_n 0, 1) := dk_42 (dk_at dksX0_shrink_10 16 rfl rfl)
theorem dX0_shrink_255 : decode cX0_shrink 255 = .ok (.getfield 54, 3) := dk_180 0 54 (dk_at dksX0_shrink_10 17 rfl rfl)
theorem dX0_shrink_258 : decode cX0_shrink 258 = .ok (.getfield 455, 3) := dk_180 1 199 (dk_at dksX0_shrink_10 20 rfl rfl)
theorem dX0_shrink_261 : decode cX0_shrink 261 = .ok (.iadd, 1) := dk_96 (dk_at dksX0_shrink_10 23 rfl rfl)
theorem dX0_shrink_262 : decode cX0_shrink 262 = .ok (.ireturn, 1) := dk_172 (dk_at dksX0_shrink_11 0 rfl rfl)
abbrev cX0_beginSide : ByteArray := prog_1_method_68_code
def yX0_beginSide : MethodName := ⟨RX0, "beginSide", "()V"⟩
def dkwX0_beginSide_1 : List UInt8 := [167, 0, 4, 3, 84, 132, 1, 1, 167, 255, 227, 177]
abbrev dktX0_beginSide_1 : List UInt8 := dkwX0_beginSide_1 ++ []
def dkwX0_beginSide_0 : List UInt8 := [3, 60, 27, 17, 1, 244, 162, 0, 28, 42, 180, 0, 77, 27, 42, 27, 182, 1, 189, 154, 0, 7, 4]
abbrev dktX0_beginSide_0 : List UInt8 := dkwX0_beginSide_0 ++ dktX0_beginSide_1
theorem dksX0_beginSide_0 : cX0_beginSide.data.toList.drop 0 = dktX0_beginSide_0 := by decide +kernel
theorem dksX0_beginSide_1 : cX0_beginSide.data.toList.drop 23 = dktX0_beginSide_1 := dk_seg dksX0_beginSide_0 23 rfl rfl
theorem dX0_beginSide_0 : decode cX0_beginSide 0 = .ok (.iconst 0, 1) := dk_3 (dk_at dksX0_beginSide_0 0 rfl rfl)
theorem dX0_beginSide_1 : decode cX0_beginSide 1 = .ok (.istore_n 1, 1) := dk_60 (dk_at dksX0_beginSide_0 1 rfl rfl)
theorem dX0_beginSide_2 : decode cX0_beginSide 2 = .ok (.iload_n 1, 1) := dk_27 (dk_at dksX0_beginSide_0 2 rfl rfl)
theorem dX0_beginSide_3 : decode cX0_beginSide 3 = .ok (.sipush 500, 3) := dk_17 1 244 (dk_at dksX0_beginSide_0 3 rfl rfl)
theorem dX0_beginSide_6 : decode cX0_beginSide 6 = .ok (.if_icmp .ge 28, 3) := dk_162 0 28 (dk_at dksX0_beginSide_0 6 rfl rfl)
theorem dX0_beginSide_9 : decode cX0_beginSide 9 = .ok (.aload_n 0, 1) := dk_42 (dk_at dksX0_beginSide_0 9 rfl rfl)
theorem dX0_beginSide_10 : decode cX0_beginSide 10 = .ok (.getfield 77, 3) := dk_180 0 77 (dk_at dksX0_beginSide_0 10 rfl rfl)
theorem dX0_beginSide_13 : decode cX0_beginSide 13 = .ok (.iload_n 1, 1) := dk_27 (dk_at dksX0_beginSide_0 13 rfl rfl)
theorem dX0_beginSide_14 : decode cX0_beginSide 14 = .ok (.aload_n 0, 1) := dk_42 (dk_at dksX0_beginSide_0 14 rfl rfl)
theorem dX0_beginSide_15 : decode cX0_beginSide 15 = .ok (.iload_n 1, 1) := dk_27 (dk_at dksX0_beginSide_0 15 rfl rfl)
theorem dX0_beginSide_16 : decode cX0_beginSide 16 = .ok (.invokevirtual 445, 3) := dk_182 1 189 (dk_at dksX0_beginSide_0 16 rfl rfl)
theorem dX0_beginSide_19 : decode cX0_beginSide 19 = .ok (.ifCond .ne 7, 3) := dk_154 0 7 (dk_at dksX0_beginSide_0 19 rfl rfl)
theorem dX0_beginSide_22 : decode cX0_beginSide 22 = .ok (.iconst 1, 1) := dk_4 (dk_at dksX0_beginSide_0 22 rfl rfl)
theorem dX0_beginSide_23 : decode cX0_beginSide 23 = .ok (.goto 4, 3) := dk_167 0 4 (dk_at dksX0_beginSide_1 0 rfl rfl)
theorem dX0_beginSide_26 : decode cX0_beginSide 26 = .ok (.iconst 0, 1) := dk_3 (dk_at dksX0_beginSide_1 3 rfl rfl)
theorem dX0_beginSide_27 : decode cX0_beginSide 27 = .ok (.bastore, 1) := dk_84 (dk_at dksX0_beginSide_1 4 rfl rfl)
theorem dX0_beginSide_28 : decode cX0_beginSide 28 = .ok (.iinc 1 1, 3) := dk_132 1 1 (dk_at dksX0_beginSide_1 5 rfl rfl)
theorem dX0_beginSide_31 : decode cX0_beginSide 31 = .ok (.goto (-29), 3) := dk_167 255 227 (dk_at dksX0_beginSide_1 8 rfl rfl)
theorem dX0_beginSide_34 : decode cX0_beginSide 34 = .ok (.return_, 1) := dk_177 (dk_at dksX0_beginSide_1 11 rfl rfl)
abbrev cX0_tried : ByteArray := prog_1_method_69_code
def yX0_tried : MethodName := ⟨RX0, "tried", "(II)I"⟩
def dkwX0_tried_3 : List UInt8 := [132, 3, 1, 167, 255, 206, 42, 180, 0, 58, 28, 182, 1, 104, 172]
abbrev dktX0_tried_3 : List UInt8 := dkwX0_tried_3 ++ []
def dkwX0_tried_2 : List UInt8 := [180, 0, 58, 89, 180, 1, 121, 90, 4, 96, 181, 1, 121, 42, 180, 0, 54, 180, 1, 202, 29, 46, 79]
abbrev dktX0_tried_2 : List UInt8 := dkwX0_tried_2 ++ dktX0_tried_3
def dkwX0_tried_1 : List UInt8 := [180, 0, 54, 180, 1, 199, 162, 0, 45, 29, 27, 159, 0, 34, 42, 180, 0, 58, 180, 1, 122, 42]
abbrev dktX0_tried_1 : List UInt8 := dkwX0_tried_1 ++ dktX0_tried_2
def dkwX0_tried_0 : List UInt8 := [42, 180, 0, 58, 182, 1, 96, 42, 180, 0, 58, 42, 180, 0, 77, 182, 1, 99, 3, 62, 29, 42]
abbrev dktX0_tried_0 : List UInt8 := dkwX0_tried_0 ++ dktX0_tried_1
theorem dksX0_tried_0 : cX0_tried.data.toList.drop 0 = dktX0_tried_0 := by decide +kernel
theorem dksX0_tried_1 : cX0_tried.data.toList.drop 22 = dktX0_tried_1 := dk_seg dksX0_tried_0 22 rfl rfl
theorem dksX0_tried_2 : cX0_tried.data.toList.drop 44 = dktX0_tried_2 := dk_seg dksX0_tried_1 22 rfl rfl
theorem dksX0_tried_3 : cX0_tried.data.toList.drop 67 = dktX0_tried_3 := dk_seg dksX0_tried_2 23 rfl rfl
theorem dX0_tried_0 : decode cX0_tried 0 = .ok (.aload_n 0, 1) := dk_42 (dk_at dksX0_tried_0 0 rfl rfl)
theorem dX0_tried_1 : decode cX0_tried 1 = .ok (.getfield 58, 3) := dk_180 0 58 (dk_at dksX0_tried_0 1 rfl rfl)
theorem dX0_tried_4 : decode cX0_tried 4 = .ok (.invokevirtual 352, 3) := dk_182 1 96 (dk_at dksX0_tried_0 4 rfl rfl)
theorem dX0_tried_7 : decode cX0_tried 7 = .ok (.aload_n 0, 1) := dk_42 (dk_at dksX0_tried_0 7 rfl rfl)
theorem dX0_tried_8 : decode cX0_tried 8 = .ok (.getfield 58, 3) := dk_180 0 58 (dk_at dksX0_tried_0 8 rfl rfl)
theorem dX0_tried_11 : decode cX0_tried 11 = .ok (.aload_n 0, 1) := dk_42 (dk_at dksX0_tried_0 11 rfl rfl)
theorem dX0_tried_12 : decode cX0_tried 12 = .ok (.getfield 77, 3) := dk_180 0 77 (dk_at dksX0_tried_0 12 rfl rfl)
theorem dX0_tried_15 : decode cX0_tried 15 = .ok (.invokevirtual 355, 3) := dk_182 1 99 (dk_at dksX0_tried_0 15 rfl rfl)
theorem dX0_tried_18 : decode cX0_tried 18 = .ok (.iconst 0, 1) := dk_3 (dk_at dksX0_tried_0 18 rfl rfl)
theorem dX0_tried_19 : decode cX0_tried 19 = .ok (.istore_n 3, 1) := dk_62 (dk_at dksX0_tried_0 19 rfl rfl)
theorem dX0_tried_20 : decode cX0_tried 20 = .ok (.iload_n 3, 1) := dk_29 (dk_at dksX0_tried_0 20 rfl rfl)
theorem dX0_tried_21 : decode cX0_tried 21 = .ok (.aload_n 0, 1) := dk_42 (dk_at dksX0_tried_0 21 rfl rfl)
theorem dX0_tried_22 : decode cX0_tried 22 = .ok (.getfield 54, 3) := dk_180 0 54 (dk_at dksX0_tried_1 0 rfl rfl)
theorem dX0_tried_25 : decode cX0_tried 25 = .ok (.getfield 455, 3) := dk_180 1 199 (dk_at dksX0_tried_1 3 rfl rfl)
theorem dX0_tried_28 : decode cX0_tried 28 = .ok (.if_icmp .ge 45, 3) := dk_162 0 45 (dk_at dksX0_tried_1 6 rfl rfl)
theorem dX0_tried_31 : decode cX0_tried 31 = .ok (.iload_n 3, 1) := dk_29 (dk_at dksX0_tried_1 9 rfl rfl)
theorem dX0_tried_32 : decode cX0_tried 32 = .ok (.iload_n 1, 1) := dk_27 (dk_at dksX0_tried_1 10 rfl rfl)
theorem dX0_tried_33 : decode cX0_tried 33 = .ok (.if_icmp .eq 34, 3) := dk_159 0 34 (dk_at dksX0_tried_1 11 rfl rfl)
theorem dX0_tried_36 : decode cX0_tried 36 = .ok (.aload_n 0, 1) := dk_42 (dk_at dksX0_tried_1 14 rfl rfl)
theorem dX0_tried_37 : decode cX0_tried 37 = .ok (.getfield 58, 3) := dk_180 0 58 (dk_at dksX0_tried_1 15 rfl rfl)
theorem dX0_tried_40 : decode cX0_tried 40 = .ok (.getfield 378, 3) := dk_180 1 122 (dk_at dksX0_tried_1 18 rfl rfl)
theorem dX0_tried_43 : decode cX0_tried 43 = .ok (.aload_n 0, 1) := dk_42 (dk_at dksX0_tried_1 21 rfl rfl)
theorem dX0_tried_44 : decode cX0_tried 44 = .ok (.getfield 58, 3) := dk_180 0 58 (dk_at dksX0_tried_2 0 rfl rfl)
theorem dX0_tried_47 : decode cX0_tried 47 = .ok (.dup, 1) := dk_89 (dk_at dksX0_tried_2 3 rfl rfl)
theorem dX0_tried_48 : decode cX0_tried 48 = .ok (.getfield 377, 3) := dk_180 1 121 (dk_at dksX0_tried_2 4 rfl rfl)
theorem dX0_tried_51 : decode cX0_tried 51 = .ok (.dup_x1, 1) := dk_90 (dk_at dksX0_tried_2 7 rfl rfl)
theorem dX0_tried_52 : decode cX0_tried 52 = .ok (.iconst 1, 1) := dk_4 (dk_at dksX0_tried_2 8 rfl rfl)
theorem dX0_tried_53 : decode cX0_tried 53 = .ok (.iadd, 1) := dk_96 (dk_at dksX0_tried_2 9 rfl rfl)
theorem dX0_tried_54 : decode cX0_tried 54 = .ok (.putfield 377, 3) := dk_181 1 121 (dk_at dksX0_tried_2 10 rfl rfl)
theorem dX0_tried_57 : decode cX0_tried 57 = .ok (.aload_n 0, 1) := dk_42 (dk_at dksX0_tried_2 13 rfl rfl)
theorem dX0_tried_58 : decode cX0_tried 58 = .ok (.getfield 54, 3) := dk_180 0 54 (dk_at dksX0_tried_2 14 rfl rfl)
theorem dX0_tried_61 : decode cX0_tried 61 = .ok (.getfield 458, 3) := dk_180 1 202 (dk_at dksX0_tried_2 17 rfl rfl)
theorem dX0_tried_64 : decode cX0_tried 64 = .ok (.iload_n 3, 1) := dk_29 (dk_at dksX0_tried_2 20 rfl rfl)
theorem dX0_tried_65 : decode cX0_tried 65 = .ok (.iaload, 1) := dk_46 (dk_at dksX0_tried_2 21 rfl rfl)
theorem dX0_tried_66 : decode cX0_tried 66 = .ok (.iastore, 1) := dk_79 (dk_at dksX0_tried_2 22 rfl rfl)
theorem dX0_tried_67 : decode cX0_tried 67 = .ok (.iinc 3 1, 3) := dk_132 3 1 (dk_at dksX0_tried_3 0 rfl rfl)
theorem dX0_tried_70 : decode cX0_tried 70 = .ok (.goto (-50), 3) := dk_167 255 206 (dk_at dksX0_tried_3 3 rfl rfl)
theorem dX0_tried_73 : decode cX0_tried 73 = .ok (.aload_n 0, 1) := dk_42 (dk_at dksX0_tried_3 6 rfl rfl)
theorem dX0_tried_74 : decode cX0_tried 74 = .ok (.getfield 58, 3) := dk_180 0 58 (dk_at dksX0_tried_3 7 rfl rfl)
theorem dX0_tried_77 : decode cX0_tried 77 = .ok (.iload_n 2, 1) := dk_28 (dk_at dksX0_tried_3 10 rfl rfl)
theorem dX0_tried_78 : decode cX0_tried 78 = .ok (.invokevirtual 360, 3) := dk_182 1 104 (dk_at dksX0_tried_3 11 rfl rfl)
theorem dX0_tried_81 : decode cX0_tried 81 = .ok (.ireturn, 1) := dk_172 (dk_at dksX0_tried_3 14 rfl rfl)
abbrev cX0_least : ByteArray := prog_1_method_71_code
def yX0_least : MethodName := ⟨RX0, "least", "(I)I"⟩
def dkwX0_least_12 : List UInt8 := [132, 6, 1, 167, 255, 65, 132, 5, 1, 167, 255, 50, 28, 172]
abbrev dktX0_least_12 : List UInt8 := dkwX0_least_12 ++ []
def dkwX0_least_11 : List UInt8 := [10, 45, 21, 8, 46, 16, 63, 126, 121, 20, 1, 214, 131, 127, 80, 132, 8, 1, 167, 255, 206, 21, 5, 172]
abbrev dktX0_least_11 : List UInt8 := dkwX0_least_11 ++ dktX0_least_12
def dkwX0_least_10 : List UInt8 := [21, 8, 122, 4, 126, 154, 0, 34, 42, 180, 0, 54, 180, 1, 186, 45, 21, 8, 46, 16, 6, 122, 92, 47]
abbrev dktX0_least_10 : List UInt8 := dkwX0_least_10 ++ dktX0_least_11
def dkwX0_least_9 : List UInt8 := [180, 0, 58, 180, 1, 211, 54, 4, 21, 7, 154, 0, 62, 3, 54, 8, 21, 8, 28, 162, 0, 50, 21, 6]
abbrev dktX0_least_9 : List UInt8 := dkwX0_least_9 ++ dktX0_least_10
def dkwX0_least_8 : List UInt8 := [54, 7, 21, 7, 17, 252, 20, 159, 0, 11, 21, 7, 17, 252, 21, 160, 0, 6, 21, 7, 172, 42]
abbrev dktX0_least_8 : List UInt8 := dkwX0_least_8 ++ dktX0_least_9
def dkwX0_least_7 : List UInt8 := [154, 0, 7, 4, 167, 0, 4, 3, 84, 132, 7, 1, 167, 255, 223, 42, 17, 252, 19, 21, 4, 182, 1, 208]
abbrev dktX0_least_7 : List UInt8 := dkwX0_least_7 ++ dktX0_least_8
def dkwX0_least_6 : List UInt8 := [3, 54, 7, 21, 7, 28, 162, 0, 33, 42, 180, 0, 77, 45, 21, 7, 46, 21, 6, 21, 7, 122, 4, 126]
abbrev dktX0_least_6 : List UInt8 := dkwX0_least_6 ++ dktX0_least_7
def dkwX0_least_5 : List UInt8 := [54, 7, 21, 7, 17, 1, 244, 162, 0, 17, 42, 180, 0, 77, 21, 7, 4, 84, 132, 7, 1, 167, 255, 237]
abbrev dktX0_least_5 : List UInt8 := dkwX0_least_5 ++ dktX0_least_6
def dkwX0_least_4 : List UInt8 := [54, 6, 21, 6, 4, 28, 120, 162, 0, 189, 21, 6, 184, 1, 219, 21, 5, 159, 0, 6, 167, 0, 170, 3]
abbrev dktX0_least_4 : List UInt8 := dkwX0_least_4 ++ dktX0_least_5
def dkwX0_least_3 : List UInt8 := [182, 1, 216, 79, 132, 4, 1, 167, 255, 236, 27, 54, 4, 3, 54, 5, 21, 5, 28, 163, 0, 206, 3]
abbrev dktX0_least_3 : List UInt8 := dkwX0_least_3 ++ dktX0_least_4
def dkwX0_least_2 : List UInt8 := [61, 16, 10, 188, 10, 78, 3, 54, 4, 21, 4, 28, 162, 0, 20, 45, 21, 4, 42, 3, 21, 4]
abbrev dktX0_least_2 : List UInt8 := dkwX0_least_2 ++ dktX0_least_3
def dkwX0_least_1 : List UInt8 := [153, 0, 12, 42, 182, 1, 196, 16, 10, 164, 0, 11, 42, 17, 252, 22, 182, 0, 124, 172, 42, 182, 1, 196]
abbrev dktX0_least_1 : List UInt8 := dkwX0_least_1 ++ dktX0_least_2
def dkwX0_least_0 : List UInt8 := [27, 133, 10, 20, 1, 113, 184, 0, 109, 154, 0, 11, 42, 17, 252, 23, 182, 0, 124, 172, 42, 182, 1, 192]
abbrev dktX0_least_0 : List UInt8 := dkwX0_least_0 ++ dktX0_least_1
theorem dksX0_least_0 : cX0_least.data.toList.drop 0 = dktX0_least_0 := by decide +kernel
theorem dksX0_least_1 : cX0_least.data.toList.drop 24 = dktX0_least_1 := dk_seg dksX0_least_0 24 rfl rfl
theorem dksX0_least_2 : cX0_least.data.toList.drop 48 = dktX0_least_2 := dk_seg dksX0_least_1 24 rfl rfl
theorem dksX0_least_3 : cX0_least.data.toList.drop 70 = dktX0_least_3 := dk_seg dksX0_least_2 22 rfl rfl
theorem dksX0_least_4 : cX0_least.data.toList.drop 93 = dktX0_least_4 := dk_seg dksX0_least_3 23 rfl rfl
theorem dksX0_least_5 : cX0_least.data.toList.drop 117 = dktX0_least_5 := dk_seg dksX0_least_4 24 rfl rfl
theorem dksX0_least_6 : cX0_least.data.toList.drop 141 = dktX0_least_6 := dk_seg dksX0_least_5 24 rfl rfl
theorem dksX0_least_7 : cX0_least.data.toList.drop 165 = dktX0_least_7 := dk_seg dksX0_least_6 24 rfl rfl
theorem dksX0_least_8 : cX0_least.data.toList.drop 189 = dktX0_least_8 := dk_seg dksX0_least_7 24 rfl rfl
theorem dksX0_least_9 : cX0_least.data.toList.drop 211 = dktX0_least_9 := dk_seg dksX0_least_8 22 rfl rfl
theorem dksX0_least_10 : cX0_least.data.toList.drop 235 = dktX0_least_10 := dk_seg dksX0_least_9 24 rfl rfl
theorem dksX0_least_11 : cX0_least.data.toList.drop 259 = dktX0_least_11 := dk_seg dksX0_least_10 24 rfl rfl
theorem dksX0_least_12 : cX0_least.data.toList.drop 283 = dktX0_least_12 := dk_seg dksX0_least_11 24 rfl rfl
theorem dX0_least_0 : decode cX0_least 0 = .ok (.iload_n 1, 1) := dk_27 (dk_at dksX0_least_0 0 rfl rfl)
theorem dX0_least_1 : decode cX0_least 1 = .ok (.i2l, 1) := dk_133 (dk_at dksX0_least_0 1 rfl rfl)
theorem dX0_least_2 : decode cX0_least 2 = .ok (.lconst 1, 1) := dk_10 (dk_at dksX0_least_0 2 rfl rfl)
theorem dX0_least_3 : decode cX0_least 3 = .ok (.ldc2_w 369, 3) := dk_20 1 113 (dk_at dksX0_least_0 3 rfl rfl)
theorem dX0_least_6 : decode cX0_least 6 = .ok (.invokestatic 109, 3) := dk_184 0 109 (dk_at dksX0_least_0 6 rfl rfl)
theorem dX0_least_9 : decode cX0_least 9 = .ok (.ifCond .ne 11, 3) := dk_154 0 11 (dk_at dksX0_least_0 9 rfl rfl)
theorem dX0_least_12 : decode cX0_least 12 = .ok (.aload_n 0, 1) := dk_42 (dk_at dksX0_least_0 12 rfl rfl)
theorem dX0_least_13 : decode cX0_least 13 = .ok (.sipush (-1001), 3) := dk_17 252 23 (dk_at dksX0_least_0 13 rfl rfl)
theorem dX0_least_16 : decode cX0_least 16 = .ok (.invokevirtual 124, 3) := dk_182 0 124 (dk_at dksX0_least_0 16 rfl rfl)
theorem dX0_least_19 : decode cX0_least 19 = .ok (.ireturn, 1) := dk_172 (dk_at dksX0_least_0 19 rfl rfl)
theorem dX0_least_20 : decode cX0_least 20 = .ok (.aload_n 0, 1) := dk_42 (dk_at dksX0_least_0 20 rfl rfl)
theorem dX0_least_21 : decode cX0_least 21 = .ok (.invokevirtual 448, 3) := dk_182 1 192 (dk_at dksX0_least_0 21 rfl rfl)
theorem dX0_least_24 : decode cX0_least 24 = .ok (.ifCond .eq 12, 3) := dk_153 0 12 (dk_at dksX0_least_1 0 rfl rfl)
theorem dX0_least_27 : decode cX0_least 27 = .ok (.aload_n 0, 1) := dk_42 (dk_at dksX0_least_1 3 rfl rfl)
theorem dX0_least_28 : decode cX0_least 28 = .ok (.invokevirtual 452, 3) := dk_182 1 196 (dk_at dksX0_least_1 4 rfl rfl)
theorem dX0_least_31 : decode cX0_least 31 = .ok (.bipush 10, 2) := dk_16 10 (dk_at dksX0_least_1 7 rfl rfl)
theorem dX0_least_33 : decode cX0_least 33 = .ok (.if_icmp .le 11, 3) := dk_164 0 11 (dk_at dksX0_least_1 9 rfl rfl)
theorem dX0_least_36 : decode cX0_least 36 = .ok (.aload_n 0, 1) := dk_42 (dk_at dksX0_least_1 12 rfl rfl)
theorem dX0_least_37 : decode cX0_least 37 = .ok (.sipush (-1002), 3) := dk_17 252 22 (dk_at dksX0_least_1 13 rfl rfl)
theorem dX0_least_40 : decode cX0_least 40 = .ok (.invokevirtual 124, 3) := dk_182 0 124 (dk_at dksX0_least_1 16 rfl rfl)
theorem dX0_least_43 : decode cX0_least 43 = .ok (.ireturn, 1) := dk_172 (dk_at dksX0_least_1 19 rfl rfl)
theorem dX0_least_44 : decode cX0_least 44 = .ok (.aload_n 0, 1) := dk_42 (dk_at dksX0_least_1 20 rfl rfl)
theorem dX0_least_45 : decode cX0_least 45 = .ok (.invokevirtual 452, 3) := dk_182 1 196 (dk_at dksX0_least_1 21 rfl rfl)
theorem dX0_least_48 : decode cX0_least 48 = .ok (.istore_n 2, 1) := dk_61 (dk_at dksX0_least_2 0 rfl rfl)
theorem dX0_least_49 : decode cX0_least 49 = .ok (.bipush 10, 2) := dk_16 10 (dk_at dksX0_least_2 1 rfl rfl)
theorem dX0_least_51 : decode cX0_least 51 = .ok (.newarray .int, 2) := dk_188_10 (dk_at dksX0_least_2 3 rfl rfl)
theorem dX0_least_53 : decode cX0_least 53 = .ok (.astore_n 3, 1) := dk_78 (dk_at dksX0_least_2 5 rfl rfl)
theorem dX0_least_54 : decode cX0_least 54 = .ok (.iconst 0, 1) := dk_3 (dk_at dksX0_least_2 6 rfl rfl)
theorem dX0_least_55 : decode cX0_least 55 = .ok (.istore 4, 2) := dk_54 4 (dk_at dksX0_least_2 7 rfl rfl)
theorem dX0_least_57 : decode cX0_least 57 = .ok (.iload 4, 2) := dk_21 4 (dk_at dksX0_least_2 9 rfl rfl)
theorem dX0_least_59 : decode cX0_least 59 = .ok (.iload_n 2, 1) := dk_28 (dk_at dksX0_least_2 11 rfl rfl)
theorem dX0_least_60 : decode cX0_least 60 = .ok (.if_icmp .ge 20, 3) := dk_162 0 20 (dk_at dksX0_least_2 12 rfl rfl)
theorem dX0_least_63 : decode cX0_least 63 = .ok (.aload_n 3, 1) := dk_45 (dk_at dksX0_least_2 15 rfl rfl)
theorem dX0_least_64 : decode cX0_least 64 = .ok (.iload 4, 2) := dk_21 4 (dk_at dksX0_least_2 16 rfl rfl)
theorem dX0_least_66 : decode cX0_least 66 = .ok (.aload_n 0, 1) := dk_42 (dk_at dksX0_least_2 18 rfl rfl)
theorem dX0_least_67 : decode cX0_least 67 = .ok (.iconst 0, 1) := dk_3 (dk_at dksX0_least_2 19 rfl rfl)
theorem dX0_least_68 : decode cX0_least 68 = .ok (.iload 4, 2) := dk_21 4 (dk_at dksX0_least_2 20 rfl rfl)
theorem dX0_least_70 : decode cX0_least 70 = .ok (.invokevirtual 472, 3) := dk_182 1 216 (dk_at dksX0_least_3 0 rfl rfl)
theorem dX0_least_73 : decode cX0_least 73 = .ok (.iastore, 1) := dk_79 (dk_at dksX0_least_3 3 rfl rfl)
theorem dX0_least_74 : decode cX0_least 74 = .ok (.iinc 4 1, 3) := dk_132 4 1 (dk_at dksX0_least_3 4 rfl rfl)
theorem dX0_least_77 : decode cX0_least 77 = .ok (.goto (-20), 3) := dk_167 255 236 (dk_at dksX0_least_3 7 rfl rfl)
theorem dX0_least_80 : decode cX0_least 80 = .ok (.iload_n 1, 1) := dk_27 (dk_at dksX0_least_3 10 rfl rfl)
theorem dX0_least_81 : decode cX0_least 81 = .ok (.istore 4, 2) := dk_54 4 (dk_at dksX0_least_3 11 rfl rfl)
theorem dX0_least_83 : decode cX0_least 83 = .ok (.iconst 0, 1) := dk_3 (dk_at dksX0_least_3 13 rfl rfl)
theorem dX0_least_84 : decode cX0_least 84 = .ok (.istore 5, 2) := dk_54 5 (dk_at dksX0_least_3 14 rfl rfl)
theorem dX0_least_86 : decode cX0_least 86 = .ok (.iload 5, 2) := dk_21 5 (dk_at dksX0_least_3 16 rfl rfl)
theorem dX0_least_88 : decode cX0_least 88 = .ok (.iload_n 2, 1) := dk_28 (dk_at dksX0_least_3 18 rfl rfl)
theorem dX0_least_89 : decode cX0_least 89 = .ok (.if_icmp .gt 206, 3) := dk_163 0 206 (dk_at dksX0_least_3 19 rfl rfl)
theorem dX0_least_92 : decode cX0_least 92 = .ok (.iconst 0, 1) := dk_3 (dk_at dksX0_least_3 22 rfl rfl)
theorem dX0_least_93 : decode cX0_least 93 = .ok (.istore 6, 2) := dk_54 6 (dk_at dksX0_least_4 0 rfl rfl)
theorem dX0_least_95 : decode cX0_least 95 = .ok (.iload 6, 2) := dk_21 6 (dk_at dksX0_least_4 2 rfl rfl)
theorem dX0_least_97 : decode cX0_least 97 = .ok (.iconst 1, 1) := dk_4 (dk_at dksX0_least_4 4 rfl rfl)
theorem dX0_least_98 : decode cX0_least 98 = .ok (.iload_n 2, 1) := dk_28 (dk_at dksX0_least_4 5 rfl rfl)
theorem dX0_least_99 : decode cX0_least 99 = .ok (.ishl, 1) := dk_120 (dk_at dksX0_least_4 6 rfl rfl)
theorem dX0_least_100 : decode cX0_least 100 = .ok (.if_icmp .ge 189, 3) := dk_162 0 189 (dk_at dksX0_least_4 7 rfl rfl)
theorem dX0_least_103 : decode cX0_least 103 = .ok (.iload 6, 2) := dk_21 6 (dk_at dksX0_least_4 10 rfl rfl)
theorem dX0_least_105 : decode cX0_least 105 = .ok (.invokestatic 475, 3) := dk_184 1 219 (dk_at dksX0_least_4 12 rfl rfl)
theorem dX0_least_108 : decode cX0_least 108 = .ok (.iload 5, 2) := dk_21 5 (dk_at dksX0_least_4 15 rfl rfl)
theorem dX0_least_110 : decode cX0_least 110 = .ok (.if_icmp .eq 6, 3) := dk_159 0 6 (dk_at dksX0_least_4 17 rfl rfl)
theorem dX0_least_113 : decode cX0_least 113 = .ok (.goto 170, 3) := dk_167 0 170 (dk_at dksX0_least_4 20 rfl rfl)
theorem dX0_least_116 : decode cX0_least 116 = .ok (.iconst 0, 1) := dk_3 (dk_at dksX0_least_4 23 rfl rfl)
theorem dX0_least_117 : decode cX0_least 117 = .ok (.istore 7, 2) := dk_54 7 (dk_at dksX0_least_5 0 rfl rfl)
theorem dX0_least_119 : decode cX0_least 119 = .ok (.iload 7, 2) := dk_21 7 (dk_at dksX0_least_5 2 rfl rfl)
theorem dX0_least_121 : decode cX0_least 121 = .ok (.sipush 500, 3) := dk_17 1 244 (dk_at dksX0_least_5 4 rfl rfl)
theorem dX0_least_124 : decode cX0_least 124 = .ok (.if_icmp .ge 17, 3) := dk_162 0 17 (dk_at dksX0_least_5 7 rfl rfl)
theorem dX0_least_127 : decode cX0_least 127 = .ok (.aload_n 0, 1) := dk_42 (dk_at dksX0_least_5 10 rfl rfl)
theorem dX0_least_128 : decode cX0_least 128 = .ok (.getfield 77, 3) := dk_180 0 77 (dk_at dksX0_least_5 11 rfl rfl)
theorem dX0_least_131 : decode cX0_least 131 = .ok (.iload 7, 2) := dk_21 7 (dk_at dksX0_least_5 14 rfl rfl)
theorem dX0_least_133 : decode cX0_least 133 = .ok (.iconst 1, 1) := dk_4 (dk_at dksX0_least_5 16 rfl rfl)
theorem dX0_least_134 : decode cX0_least 134 = .ok (.bastore, 1) := dk_84 (dk_at dksX0_least_5 17 rfl rfl)
theorem dX0_least_135 : decode cX0_least 135 = .ok (.iinc 7 1, 3) := dk_132 7 1 (dk_at dksX0_least_5 18 rfl rfl)
theorem dX0_least_138 : decode cX0_least 138 = .ok (.goto (-19), 3) := dk_167 255 237 (dk_at dksX0_least_5 21 rfl rfl)
theorem dX0_least_141 : decode cX0_least 141 = .ok (.iconst 0, 1) := dk_3 (dk_at dksX0_least_6 0 rfl rfl)
theorem dX0_least_142 : decode cX0_least 142 = .ok (.istore 7, 2) := dk_54 7 (dk_at dksX0_least_6 1 rfl rfl)
theorem dX0_least_144 : decode cX0_least 144 = .ok (.iload 7, 2) := dk_21 7 (dk_at dksX0_least_6 3 rfl rfl)
theorem dX0_least_146 : decode cX0_least 146 = .ok (.iload_n 2, 1) := dk_28 (dk_at dksX0_least_6 5 rfl rfl)
theorem dX0_least_147 : decode cX0_least 147 = .ok (.if_icmp .ge 33, 3) := dk_162 0 33 (dk_at dksX0_least_6 6 rfl rfl)
theorem dX0_least_150 : decode cX0_least 150 = .ok (.aload_n 0, 1) := dk_42 (dk_at dksX0_least_6 9 rfl rfl)
theorem dX0_least_151 : decode cX0_least 151 = .ok (.getfield 77, 3) := dk_180 0 77 (dk_at dksX0_least_6 10 rfl rfl)
theorem dX0_least_154 : decode cX0_least 154 = .ok (.aload_n 3, 1) := dk_45 (dk_at dksX0_least_6 13 rfl rfl)
theorem dX0_least_155 : decode cX0_least 155 = .ok (.iload 7, 2) := dk_21 7 (dk_at dksX0_least_6 14 rfl rfl)
theorem dX0_least_157 : decode cX0_least 157 = .ok (.iaload, 1) := dk_46 (dk_at dksX0_least_6 16 rfl rfl)
theorem dX0_least_158 : decode cX0_least 158 = .ok (.iload 6, 2) := dk_21 6 (dk_at dksX0_least_6 17 rfl rfl)
theorem dX0_least_160 : decode cX0_least 160 = .ok (.iload 7, 2) := dk_21 7 (dk_at dksX0_least_6 19 rfl rfl)
theorem dX0_least_162 : decode cX0_least 162 = .ok (.ishr, 1) := dk_122 (dk_at dksX0_least_6 21 rfl rfl)
theorem dX0_least_163 : decode cX0_least 163 = .ok (.iconst 1, 1) := dk_4 (dk_at dksX0_least_6 22 rfl rfl)
theorem dX0_least_164 : decode cX0_least 164 = .ok (.iand, 1) := dk_126 (dk_at dksX0_least_6 23 rfl rfl)
theorem dX0_least_165 : decode cX0_least 165 = .ok (.ifCond .ne 7, 3) := dk_154 0 7 (dk_at dksX0_least_7 0 rfl rfl)
theorem dX0_least_168 : decode cX0_least 168 = .ok (.iconst 1, 1) := dk_4 (dk_at dksX0_least_7 3 rfl rfl)
theorem dX0_least_169 : decode cX0_least 169 = .ok (.goto 4, 3) := dk_167 0 4 (dk_at dksX0_least_7 4 rfl rfl)
theorem dX0_least_172 : decode cX0_least 172 = .ok (.iconst 0, 1) := dk_3 (dk_at dksX0_least_7 7 rfl rfl)
theorem dX0_least_173 : decode cX0_least 173 = .ok (.bastore, 1) := dk_84 (dk_at dksX0_least_7 8 rfl rfl)
theorem dX0_least_174 : decode cX0_least 174 = .ok (.iinc 7 1, 3) := dk_132 7 1 (dk_at dksX0_least_7 9 rfl rfl)
theorem dX0_least_177 : decode cX0_least 177 = .ok (.goto (-33), 3) := dk_167 255 223 (dk_at dksX0_least_7 12 rfl rfl)
theorem dX0_least_180 : decode cX0_least 180 = .ok (.aload_n 0, 1) := dk_42 (dk_at dksX0_least_7 15 rfl rfl)
theorem dX0_least_181 : decode cX0_least 181 = .ok (.sipush (-1005), 3) := dk_17 252 19 (dk_at dksX0_least_7 16 rfl rfl)
theorem dX0_least_184 : decode cX0_least 184 = .ok (.iload 4, 2) := dk_21 4 (dk_at dksX0_least_7 19 rfl rfl)
theorem dX0_least_186 : decode cX0_least 186 = .ok (.invokevirtual 464, 3) := dk_182 1 208 (dk_at dksX0_least_7 21 rfl rfl)
theorem dX0_least_189 : decode cX0_least 189 = .ok (.istore 7, 2) := dk_54 7 (dk_at dksX0_least_8 0 rfl rfl)
theorem dX0_least_191 : decode cX0_least 191 = .ok (.iload 7, 2) := dk_21 7 (dk_at dksX0_least_8 2 rfl rfl)
theorem dX0_least_193 : decode cX0_least 193 = .ok (.sipush (-1004), 3) := dk_17 252 20 (dk_at dksX0_least_8 4 rfl rfl)
theorem dX0_least_196 : decode cX0_least 196 = .ok (.if_icmp .eq 11, 3) := dk_159 0 11 (dk_at dksX0_least_8 7 rfl rfl)
theorem dX0_least_199 : decode cX0_least 199 = .ok (.iload 7, 2) := dk_21 7 (dk_at dksX0_least_8 10 rfl rfl)
theorem dX0_least_201 : decode cX0_least 201 = .ok (.sipush (-1003), 3) := dk_17 252 21 (dk_at dksX0_least_8 12 rfl rfl)
theorem dX0_least_204 : decode cX0_least 204 = .ok (.if_icmp .ne 6, 3) := dk_160 0 6 (dk_at dksX0_least_8 15 rfl rfl)
theorem dX0_least_207 : decode cX0_least 207 = .ok (.iload 7, 2) := dk_21 7 (dk_at dksX0_least_8 18 rfl rfl)
theorem dX0_least_209 : decode cX0_least 209 = .ok (.ireturn, 1) := dk_172 (dk_at dksX0_least_8 20 rfl rfl)
theorem dX0_least_210 : decode cX0_least 210 = .ok (.aload_n 0, 1) := dk_42 (dk_at dksX0_least_8 21 rfl rfl)
theorem dX0_least_211 : decode cX0_least 211 = .ok (.getfield 58, 3) := dk_180 0 58 (dk_at dksX0_least_9 0 rfl rfl)
theorem dX0_least_214 : decode cX0_least 214 = .ok (.getfield 467, 3) := dk_180 1 211 (dk_at dksX0_least_9 3 rfl rfl)
theorem dX0_least_217 : decode cX0_least 217 = .ok (.istore 4, 2) := dk_54 4 (dk_at dksX0_least_9 6 rfl rfl)
theorem dX0_least_219 : decode cX0_least 219 = .ok (.iload 7, 2) := dk_21 7 (dk_at dksX0_least_9 8 rfl rfl)
theorem dX0_least_221 : decode cX0_least 221 = .ok (.ifCond .ne 62, 3) := dk_154 0 62 (dk_at dksX0_least_9 10 rfl rfl)
theorem dX0_least_224 : decode cX0_least 224 = .ok (.iconst 0, 1) := dk_3 (dk_at dksX0_least_9 13 rfl rfl)
theorem dX0_least_225 : decode cX0_least 225 = .ok (.istore 8, 2) := dk_54 8 (dk_at dksX0_least_9 14 rfl rfl)
theorem dX0_least_227 : decode cX0_least 227 = .ok (.iload 8, 2) := dk_21 8 (dk_at dksX0_least_9 16 rfl rfl)
theorem dX0_least_229 : decode cX0_least 229 = .ok (.iload_n 2, 1) := dk_28 (dk_at dksX0_least_9 18 rfl rfl)
theorem dX0_least_230 : decode cX0_least 230 = .ok (.if_icmp .ge 50, 3) := dk_162 0 50 (dk_at dksX0_least_9 19 rfl rfl)
theorem dX0_least_233 : decode cX0_least 233 = .ok (.iload 6, 2) := dk_21 6 (dk_at dksX0_least_9 22 rfl rfl)
theorem dX0_least_235 : decode cX0_least 235 = .ok (.iload 8, 2) := dk_21 8 (dk_at dksX0_least_10 0 rfl rfl)
theorem dX0_least_237 : decode cX0_least 237 = .ok (.ishr, 1) := dk_122 (dk_at dksX0_least_10 2 rfl rfl)
theorem dX0_least_238 : decode cX0_least 238 = .ok (.iconst 1, 1) := dk_4 (dk_at dksX0_least_10 3 rfl rfl)
theorem dX0_least_239 : decode cX0_least 239 = .ok (.iand, 1) := dk_126 (dk_at dksX0_least_10 4 rfl rfl)
theorem dX0_least_240 : decode cX0_least 240 = .ok (.ifCond .ne 34, 3) := dk_154 0 34 (dk_at dksX0_least_10 5 rfl rfl)
theorem dX0_least_243 : decode cX0_least 243 = .ok (.aload_n 0, 1) := dk_42 (dk_at dksX0_least_10 8 rfl rfl)
theorem dX0_least_244 : decode cX0_least 244 = .ok (.getfield 54, 3) := dk_180 0 54 (dk_at dksX0_least_10 9 rfl rfl)
theorem dX0_least_247 : decode cX0_least 247 = .ok (.getfield 442, 3) := dk_180 1 186 (dk_at dksX0_least_10 12 rfl rfl)
theorem dX0_least_250 : decode cX0_least 250 = .ok (.aload_n 3, 1) := dk_45 (dk_at dksX0_least_10 15 rfl rfl)
theorem dX0_least_251 : decode cX0_least 251 = .ok (.iload 8, 2) := dk_21 8 (dk_at dksX0_least_10 16 rfl rfl)
theorem dX0_least_253 : decode cX0_least 253 = .ok (.iaload, 1) := dk_46 (dk_at dksX0_least_10 18 rfl rfl)
theorem dX0_least_254 : decode cX0_least 254 = .ok (.bipush 6, 2) := dk_16 6 (dk_at dksX0_least_10 19 rfl rfl)
theorem dX0_least_256 : decode cX0_least 256 = .ok (.ishr, 1) := dk_122 (dk_at dksX0_least_10 21 rfl rfl)
theorem dX0_least_257 : decode cX0_least 257 = .ok (.dup2, 1) := dk_92 (dk_at dksX0_least_10 22 rfl rfl)
theorem dX0_least_258 : decode cX0_least 258 = .ok (.laload, 1) := dk_47 (dk_at dksX0_least_10 23 rfl rfl)
theorem dX0_least_259 : decode cX0_least 259 = .ok (.lconst 1, 1) := dk_10 (dk_at dksX0_least_11 0 rfl rfl)
theorem dX0_least_260 : decode cX0_least 260 = .ok (.aload_n 3, 1) := dk_45 (dk_at dksX0_least_11 1 rfl rfl)
theorem dX0_least_261 : decode cX0_least 261 = .ok (.iload 8, 2) := dk_21 8 (dk_at dksX0_least_11 2 rfl rfl)
theorem dX0_least_263 : decode cX0_least 263 = .ok (.iaload, 1) := dk_46 (dk_at dksX0_least_11 4 rfl rfl)
theorem dX0_least_264 : decode cX0_least 264 = .ok (.bipush 63, 2) := dk_16 63 (dk_at dksX0_least_11 5 rfl rfl)
theorem dX0_least_266 : decode cX0_least 266 = .ok (.iand, 1) := dk_126 (dk_at dksX0_least_11 7 rfl rfl)
theorem dX0_least_267 : decode cX0_least 267 = .ok (.lshl, 1) := dk_121 (dk_at dksX0_least_11 8 rfl rfl)
theorem dX0_least_268 : decode cX0_least 268 = .ok (.ldc2_w 470, 3) := dk_20 1 214 (dk_at dksX0_least_11 9 rfl rfl)
theorem dX0_least_271 : decode cX0_least 271 = .ok (.lxor, 1) := dk_131 (dk_at dksX0_least_11 12 rfl rfl)
theorem dX0_least_272 : decode cX0_least 272 = .ok (.land, 1) := dk_127 (dk_at dksX0_least_11 13 rfl rfl)
theorem dX0_least_273 : decode cX0_least 273 = .ok (.lastore, 1) := dk_80 (dk_at dksX0_least_11 14 rfl rfl)
theorem dX0_least_274 : decode cX0_least 274 = .ok (.iinc 8 1, 3) := dk_132 8 1 (dk_at dksX0_least_11 15 rfl rfl)
theorem dX0_least_277 : decode cX0_least 277 = .ok (.goto (-50), 3) := dk_167 255 206 (dk_at dksX0_least_11 18 rfl rfl)
theorem dX0_least_280 : decode cX0_least 280 = .ok (.iload 5, 2) := dk_21 5 (dk_at dksX0_least_11 21 rfl rfl)
theorem dX0_least_282 : decode cX0_least 282 = .ok (.ireturn, 1) := dk_172 (dk_at dksX0_least_11 23 rfl rfl)
theorem dX0_least_283 : decode cX0_least 283 = .ok (.iinc 6 1, 3) := dk_132 6 1 (dk_at dksX0_least_12 0 rfl rfl)
theorem dX0_least_286 : decode cX0_least 286 = .ok (.goto (-191), 3) := dk_167 255 65 (dk_at dksX0_least_12 3 rfl rfl)
theorem dX0_least_289 : decode cX0_least 289 = .ok (.iinc 5 1, 3) := dk_132 5 1 (dk_at dksX0_least_12 6 rfl rfl)
theorem dX0_least_292 : decode cX0_least 292 = .ok (.goto (-206), 3) := dk_167 255 50 (dk_at dksX0_least_12 9 rfl rfl)
theorem dX0_least_295 : decode cX0_least 295 = .ok (.iload_n 2, 1) := dk_28 (dk_at dksX0_least_12 12 rfl rfl)
theorem dX0_least_296 : decode cX0_least 296 = .ok (.ireturn, 1) := dk_172 (dk_at dksX0_least_12 13 rfl rfl)
abbrev cX0_take : ByteArray := prog_1_method_72_code
def yX0_take : MethodName := ⟨RX0, "take", "()I"⟩
def dkwX0_take_5 : List UInt8 := [167, 255, 163, 42, 180, 1, 224, 172]
abbrev dktX0_take_5 : List UInt8 := dkwX0_take_5 ++ []
def dkwX0_take_4 : List UInt8 := [180, 1, 224, 42, 180, 0, 84, 27, 46, 42, 180, 0, 54, 180, 1, 183, 28, 46, 96, 79, 132, 1, 1]
abbrev dktX0_take_4 : List UInt8 := dkwX0_take_4 ++ dktX0_take_5
def dkwX0_take_3 : List UInt8 := [180, 1, 183, 28, 46, 184, 0, 144, 42, 89, 180, 1, 224, 4, 96, 181, 1, 224, 42, 180, 0, 84, 42]
abbrev dktX0_take_3 : List UInt8 := dkwX0_take_3 ++ dktX0_take_4
def dkwX0_take_2 : List UInt8 := [180, 0, 54, 180, 1, 180, 28, 46, 42, 180, 0, 81, 42, 180, 0, 84, 27, 46, 42, 180, 0, 54]
abbrev dktX0_take_2 : List UInt8 := dkwX0_take_2 ++ dktX0_take_3
def dkwX0_take_1 : List UInt8 := [180, 0, 54, 180, 1, 156, 162, 0, 88, 17, 2, 52, 27, 96, 61, 42, 180, 0, 54, 180, 1, 177, 42]
abbrev dktX0_take_1 : List UInt8 := dkwX0_take_1 ++ dktX0_take_2
def dkwX0_take_0 : List UInt8 := [42, 182, 1, 192, 154, 0, 11, 42, 17, 252, 22, 182, 0, 124, 172, 42, 3, 181, 1, 224, 3, 60, 27, 42]
abbrev dktX0_take_0 : List UInt8 := dkwX0_take_0 ++ dktX0_take_1
theorem dksX0_take_0 : cX0_take.data.toList.drop 0 = dktX0_take_0 := by decide +kernel
theorem dksX0_take_1 : cX0_take.data.toList.drop 24 = dktX0_take_1 := dk_seg dksX0_take_0 24 rfl rfl
theorem dksX0_take_2 : cX0_take.data.toList.drop 47 = dktX0_take_2 := dk_seg dksX0_take_1 23 rfl rfl
theorem dksX0_take_3 : cX0_take.data.toList.drop 69 = dktX0_take_3 := dk_seg dksX0_take_2 22 rfl rfl
theorem dksX0_take_4 : cX0_take.data.toList.drop 92 = dktX0_take_4 := dk_seg dksX0_take_3 23 rfl rfl
theorem dksX0_take_5 : cX0_take.data.toList.drop 115 = dktX0_take_5 := dk_seg dksX0_take_4 23 rfl rfl
theorem dX0_take_0 : decode cX0_take 0 = .ok (.aload_n 0, 1) := dk_42 (dk_at dksX0_take_0 0 rfl rfl)
theorem dX0_take_1 : decode cX0_take 1 = .ok (.invokevirtual 448, 3) := dk_182 1 192 (dk_at dksX0_take_0 1 rfl rfl)
theorem dX0_take_4 : decode cX0_take 4 = .ok (.ifCond .ne 11, 3) := dk_154 0 11 (dk_at dksX0_take_0 4 rfl rfl)
theorem dX0_take_7 : decode cX0_take 7 = .ok (.aload_n 0, 1) := dk_42 (dk_at dksX0_take_0 7 rfl rfl)
theorem dX0_take_8 : decode cX0_take 8 = .ok (.sipush (-1002), 3) := dk_17 252 22 (dk_at dksX0_take_0 8 rfl rfl)
theorem dX0_take_11 : decode cX0_take 11 = .ok (.invokevirtual 124, 3) := dk_182 0 124 (dk_at dksX0_take_0 11 rfl rfl)
theorem dX0_take_14 : decode cX0_take 14 = .ok (.ireturn, 1) := dk_172 (dk_at dksX0_take_0 14 rfl rfl)
theorem dX0_take_15 : decode cX0_take 15 = .ok (.aload_n 0, 1) := dk_42 (dk_at dksX0_take_0 15 rfl rfl)
theorem dX0_take_16 : decode cX0_take 16 = .ok (.iconst 0, 1) := dk_3 (dk_at dksX0_take_0 16 rfl rfl)
theorem dX0_take_17 : decode cX0_take 17 = .ok (.putfield 480, 3) := dk_181 1 224 (dk_at dksX0_take_0 17 rfl rfl)
theorem dX0_take_20 : decode cX0_take 20 = .ok (.iconst 0, 1) := dk_3 (dk_at dksX0_take_0 20 rfl rfl)
theorem dX0_take_21 : decode cX0_take 21 = .ok (.istore_n 1, 1) := dk_60 (dk_at dksX0_take_0 21 rfl rfl)
theorem dX0_take_22 : decode cX0_take 22 = .ok (.iload_n 1, 1) := dk_27 (dk_at dksX0_take_0 22 rfl rfl)
theorem dX0_take_23 : decode cX0_take 23 = .ok (.aload_n 0, 1) := dk_42 (dk_at dksX0_take_0 23 rfl rfl)
theorem dX0_take_24 : decode cX0_take 24 = .ok (.getfield 54, 3) := dk_180 0 54 (dk_at dksX0_take_1 0 rfl rfl)
theorem dX0_take_27 : decode cX0_take 27 = .ok (.getfield 412, 3) := dk_180 1 156 (dk_at dksX0_take_1 3 rfl rfl)
theorem dX0_take_30 : decode cX0_take 30 = .ok (.if_icmp .ge 88, 3) := dk_162 0 88 (dk_at dksX0_take_1 6 rfl rfl)
theorem dX0_take_33 : decode cX0_take 33 = .ok (.sipush 564, 3) := dk_17 2 52 (dk_at dksX0_take_1 9 rfl rfl)
theorem dX0_take_36 : decode cX0_take 36 = .ok (.iload_n 1, 1) := dk_27 (dk_at dksX0_take_1 12 rfl rfl)
theorem dX0_take_37 : decode cX0_take 37 = .ok (.iadd, 1) := dk_96 (dk_at dksX0_take_1 13 rfl rfl)
theorem dX0_take_38 : decode cX0_take 38 = .ok (.istore_n 2, 1) := dk_61 (dk_at dksX0_take_1 14 rfl rfl)
theorem dX0_take_39 : decode cX0_take 39 = .ok (.aload_n 0, 1) := dk_42 (dk_at dksX0_take_1 15 rfl rfl)
theorem dX0_take_40 : decode cX0_take 40 = .ok (.getfield 54, 3) := dk_180 0 54 (dk_at dksX0_take_1 16 rfl rfl)
theorem dX0_take_43 : decode cX0_take 43 = .ok (.getfield 433, 3) := dk_180 1 177 (dk_at dksX0_take_1 19 rfl rfl)
theorem dX0_take_46 : decode cX0_take 46 = .ok (.aload_n 0, 1) := dk_42 (dk_at dksX0_take_1 22 rfl rfl)
theorem dX0_take_47 : decode cX0_take 47 = .ok (.getfield 54, 3) := dk_180 0 54 (dk_at dksX0_take_2 0 rfl rfl)
theorem dX0_take_50 : decode cX0_take 50 = .ok (.getfield 436, 3) := dk_180 1 180 (dk_at dksX0_take_2 3 rfl rfl)
theorem dX0_take_53 : decode cX0_take 53 = .ok (.iload_n 2, 1) := dk_28 (dk_at dksX0_take_2 6 rfl rfl)
theorem dX0_take_54 : decode cX0_take 54 = .ok (.iaload, 1) := dk_46 (dk_at dksX0_take_2 7 rfl rfl)
theorem dX0_take_55 : decode cX0_take 55 = .ok (.aload_n 0, 1) := dk_42 (dk_at dksX0_take_2 8 rfl rfl)
theorem dX0_take_56 : decode cX0_take 56 = .ok (.getfield 81, 3) := dk_180 0 81 (dk_at dksX0_take_2 9 rfl rfl)
theorem dX0_take_59 : decode cX0_take 59 = .ok (.aload_n 0, 1) := dk_42 (dk_at dksX0_take_2 12 rfl rfl)
theorem dX0_take_60 : decode cX0_take 60 = .ok (.getfield 84, 3) := dk_180 0 84 (dk_at dksX0_take_2 13 rfl rfl)
theorem dX0_take_63 : decode cX0_take 63 = .ok (.iload_n 1, 1) := dk_27 (dk_at dksX0_take_2 16 rfl rfl)
theorem dX0_take_64 : decode cX0_take 64 = .ok (.iaload, 1) := dk_46 (dk_at dksX0_take_2 17 rfl rfl)
theorem dX0_take_65 : decode cX0_take 65 = .ok (.aload_n 0, 1) := dk_42 (dk_at dksX0_take_2 18 rfl rfl)
theorem dX0_take_66 : decode cX0_take 66 = .ok (.getfield 54, 3) := dk_180 0 54 (dk_at dksX0_take_2 19 rfl rfl)
theorem dX0_take_69 : decode cX0_take 69 = .ok (.getfield 439, 3) := dk_180 1 183 (dk_at dksX0_take_3 0 rfl rfl)
theorem dX0_take_72 : decode cX0_take 72 = .ok (.iload_n 2, 1) := dk_28 (dk_at dksX0_take_3 3 rfl rfl)
theorem dX0_take_73 : decode cX0_take 73 = .ok (.iaload, 1) := dk_46 (dk_at dksX0_take_3 4 rfl rfl)
theorem dX0_take_74 : decode cX0_take 74 = .ok (.invokestatic 144, 3) := dk_184 0 144 (dk_at dksX0_take_3 5 rfl rfl)
theorem dX0_take_77 : decode cX0_take 77 = .ok (.aload_n 0, 1) := dk_42 (dk_at dksX0_take_3 8 rfl rfl)
theorem dX0_take_78 : decode cX0_take 78 = .ok (.dup, 1) := dk_89 (dk_at dksX0_take_3 9 rfl rfl)
theorem dX0_take_79 : decode cX0_take 79 = .ok (.getfield 480, 3) := dk_180 1 224 (dk_at dksX0_take_3 10 rfl rfl)
theorem dX0_take_82 : decode cX0_take 82 = .ok (.iconst 1, 1) := dk_4 (dk_at dksX0_take_3 13 rfl rfl)
theorem dX0_take_83 : decode cX0_take 83 = .ok (.iadd, 1) := dk_96 (dk_at dksX0_take_3 14 rfl rfl)
theorem dX0_take_84 : decode cX0_take 84 = .ok (.putfield 480, 3) := dk_181 1 224 (dk_at dksX0_take_3 15 rfl rfl)
theorem dX0_take_87 : decode cX0_take 87 = .ok (.aload_n 0, 1) := dk_42 (dk_at dksX0_take_3 18 rfl rfl)
theorem dX0_take_88 : decode cX0_take 88 = .ok (.getfield 84, 3) := dk_180 0 84 (dk_at dksX0_take_3 19 rfl rfl)
theorem dX0_take_91 : decode cX0_take 91 = .ok (.aload_n 0, 1) := dk_42 (dk_at dksX0_take_3 22 rfl rfl)
theorem dX0_take_92 : decode cX0_take 92 = .ok (.getfield 480, 3) := dk_180 1 224 (dk_at dksX0_take_4 0 rfl rfl)
theorem dX0_take_95 : decode cX0_take 95 = .ok (.aload_n 0, 1) := dk_42 (dk_at dksX0_take_4 3 rfl rfl)
theorem dX0_take_96 : decode cX0_take 96 = .ok (.getfield 84, 3) := dk_180 0 84 (dk_at dksX0_take_4 4 rfl rfl)
theorem dX0_take_99 : decode cX0_take 99 = .ok (.iload_n 1, 1) := dk_27 (dk_at dksX0_take_4 7 rfl rfl)
theorem dX0_take_100 : decode cX0_take 100 = .ok (.iaload, 1) := dk_46 (dk_at dksX0_take_4 8 rfl rfl)
theorem dX0_take_101 : decode cX0_take 101 = .ok (.aload_n 0, 1) := dk_42 (dk_at dksX0_take_4 9 rfl rfl)
theorem dX0_take_102 : decode cX0_take 102 = .ok (.getfield 54, 3) := dk_180 0 54 (dk_at dksX0_take_4 10 rfl rfl)
theorem dX0_take_105 : decode cX0_take 105 = .ok (.getfield 439, 3) := dk_180 1 183 (dk_at dksX0_take_4 13 rfl rfl)
theorem dX0_take_108 : decode cX0_take 108 = .ok (.iload_n 2, 1) := dk_28 (dk_at dksX0_take_4 16 rfl rfl)
theorem dX0_take_109 : decode cX0_take 109 = .ok (.iaload, 1) := dk_46 (dk_at dksX0_take_4 17 rfl rfl)
theorem dX0_take_110 : decode cX0_take 110 = .ok (.iadd, 1) := dk_96 (dk_at dksX0_take_4 18 rfl rfl)
theorem dX0_take_111 : decode cX0_take 111 = .ok (.iastore, 1) := dk_79 (dk_at dksX0_take_4 19 rfl rfl)
theorem dX0_take_112 : decode cX0_take 112 = .ok (.iinc 1 1, 3) := dk_132 1 1 (dk_at dksX0_take_4 20 rfl rfl)
theorem dX0_take_115 : decode cX0_take 115 = .ok (.goto (-93), 3) := dk_167 255 163 (dk_at dksX0_take_5 0 rfl rfl)
theorem dX0_take_118 : decode cX0_take 118 = .ok (.aload_n 0, 1) := dk_42 (dk_at dksX0_take_5 3 rfl rfl)
theorem dX0_take_119 : decode cX0_take 119 = .ok (.getfield 480, 3) := dk_180 1 224 (dk_at dksX0_take_5 4 rfl rfl)
theorem dX0_take_122 : decode cX0_take 122 = .ok (.ireturn, 1) := dk_172 (dk_at dksX0_take_5 7 rfl rfl)
abbrev cX0_claim : ByteArray := prog_1_method_73_code
def yX0_claim : MethodName := ⟨RX0, "claim", "(I)I"⟩
def dkwX0_claim_7 : List UInt8 := [42, 180, 1, 224, 172, 77, 42, 17, 252, 13, 182, 0, 124, 172, 77, 42, 17, 252, 12, 182, 0, 124, 172]
abbrev dktX0_claim_7 : List UInt8 := dkwX0_claim_7 ++ []
def dkwX0_claim_6 : List UInt8 := [180, 0, 84, 42, 180, 1, 224, 42, 180, 0, 84, 42, 180, 1, 224, 4, 100, 46, 42, 180, 0, 181, 96, 79]
abbrev dktX0_claim_6 : List UInt8 := dkwX0_claim_6 ++ dktX0_claim_7
def dkwX0_claim_5 : List UInt8 := [42, 180, 1, 224, 46, 42, 180, 0, 181, 184, 0, 144, 42, 89, 180, 1, 224, 4, 96, 181, 1, 224, 42]
abbrev dktX0_claim_5 : List UInt8 := dkwX0_claim_5 ++ dktX0_claim_6
def dkwX0_claim_4 : List UInt8 := [164, 0, 11, 42, 17, 252, 21, 182, 0, 124, 172, 42, 180, 0, 31, 3, 42, 180, 0, 81, 42, 180, 0, 84]
abbrev dktX0_claim_4 : List UInt8 := dkwX0_claim_4 ++ dktX0_claim_5
def dkwX0_claim_3 : List UInt8 := [17, 3, 32, 159, 0, 23, 42, 180, 0, 84, 42, 180, 1, 224, 46, 42, 180, 0, 181, 96, 17, 31, 64]
abbrev dktX0_claim_3 : List UInt8 := dkwX0_claim_3 ++ dktX0_claim_4
def dkwX0_claim_2 : List UInt8 := [54, 6, 42, 21, 6, 182, 0, 187, 132, 5, 1, 167, 255, 234, 42, 182, 0, 190, 42, 180, 1, 224]
abbrev dktX0_claim_2 : List UInt8 := dkwX0_claim_2 ++ dktX0_claim_3
def dkwX0_claim_1 : List UInt8 := [182, 0, 244, 44, 78, 45, 190, 54, 4, 3, 54, 5, 21, 5, 21, 4, 162, 0, 21, 45, 21, 5, 46]
abbrev dktX0_claim_1 : List UInt8 := dkwX0_claim_1 ++ dktX0_claim_2
def dkwX0_claim_0 : List UInt8 := [27, 184, 0, 132, 154, 0, 11, 42, 17, 252, 23, 182, 0, 124, 172, 42, 27, 182, 0, 214, 77, 42]
abbrev dktX0_claim_0 : List UInt8 := dkwX0_claim_0 ++ dktX0_claim_1
theorem dksX0_claim_0 : cX0_claim.data.toList.drop 0 = dktX0_claim_0 := by decide +kernel
theorem dksX0_claim_1 : cX0_claim.data.toList.drop 22 = dktX0_claim_1 := dk_seg dksX0_claim_0 22 rfl rfl
theorem dksX0_claim_2 : cX0_claim.data.toList.drop 45 = dktX0_claim_2 := dk_seg dksX0_claim_1 23 rfl rfl
theorem dksX0_claim_3 : cX0_claim.data.toList.drop 67 = dktX0_claim_3 := dk_seg dksX0_claim_2 22 rfl rfl
theorem dksX0_claim_4 : cX0_claim.data.toList.drop 90 = dktX0_claim_4 := dk_seg dksX0_claim_3 23 rfl rfl
theorem dksX0_claim_5 : cX0_claim.data.toList.drop 114 = dktX0_claim_5 := dk_seg dksX0_claim_4 24 rfl rfl
theorem dksX0_claim_6 : cX0_claim.data.toList.drop 137 = dktX0_claim_6 := dk_seg dksX0_claim_5 23 rfl rfl
theorem dksX0_claim_7 : cX0_claim.data.toList.drop 161 = dktX0_claim_7 := dk_seg dksX0_claim_6 24 rfl rfl
theorem dX0_claim_0 : decode cX0_claim 0 = .ok (.iload_n 1, 1) := dk_27 (dk_at dksX0_claim_0 0 rfl rfl)
theorem dX0_claim_1 : decode cX0_claim 1 = .ok (.invokestatic 132, 3) := dk_184 0 132 (dk_at dksX0_claim_0 1 rfl rfl)
theorem dX0_claim_4 : decode cX0_claim 4 = .ok (.ifCond .ne 11, 3) := dk_154 0 11 (dk_at dksX0_claim_0 4 rfl rfl)
theorem dX0_claim_7 : decode cX0_claim 7 = .ok (.aload_n 0, 1) := dk_42 (dk_at dksX0_claim_0 7 rfl rfl)
theorem dX0_claim_8 : decode cX0_claim 8 = .ok (.sipush (-1001), 3) := dk_17 252 23 (dk_at dksX0_claim_0 8 rfl rfl)
theorem dX0_claim_11 : decode cX0_claim 11 = .ok (.invokevirtual 124, 3) := dk_182 0 124 (dk_at dksX0_claim_0 11 rfl rfl)
theorem dX0_claim_14 : decode cX0_claim 14 = .ok (.ireturn, 1) := dk_172 (dk_at dksX0_claim_0 14 rfl rfl)
theorem dX0_claim_15 : decode cX0_claim 15 = .ok (.aload_n 0, 1) := dk_42 (dk_at dksX0_claim_0 15 rfl rfl)
theorem dX0_claim_16 : decode cX0_claim 16 = .ok (.iload_n 1, 1) := dk_27 (dk_at dksX0_claim_0 16 rfl rfl)
theorem dX0_claim_17 : decode cX0_claim 17 = .ok (.invokevirtual 214, 3) := dk_182 0 214 (dk_at dksX0_claim_0 17 rfl rfl)
theorem dX0_claim_20 : decode cX0_claim 20 = .ok (.astore_n 2, 1) := dk_77 (dk_at dksX0_claim_0 20 rfl rfl)
theorem dX0_claim_21 : decode cX0_claim 21 = .ok (.aload_n 0, 1) := dk_42 (dk_at dksX0_claim_0 21 rfl rfl)
theorem dX0_claim_22 : decode cX0_claim 22 = .ok (.invokevirtual 244, 3) := dk_182 0 244 (dk_at dksX0_claim_1 0 rfl rfl)
theorem dX0_claim_25 : decode cX0_claim 25 = .ok (.aload_n 2, 1) := dk_44 (dk_at dksX0_claim_1 3 rfl rfl)
theorem dX0_claim_26 : decode cX0_claim 26 = .ok (.astore_n 3, 1) := dk_78 (dk_at dksX0_claim_1 4 rfl rfl)
theorem dX0_claim_27 : decode cX0_claim 27 = .ok (.aload_n 3, 1) := dk_45 (dk_at dksX0_claim_1 5 rfl rfl)
theorem dX0_claim_28 : decode cX0_claim 28 = .ok (.arraylength, 1) := dk_190 (dk_at dksX0_claim_1 6 rfl rfl)
theorem dX0_claim_29 : decode cX0_claim 29 = .ok (.istore 4, 2) := dk_54 4 (dk_at dksX0_claim_1 7 rfl rfl)
theorem dX0_claim_31 : decode cX0_claim 31 = .ok (.iconst 0, 1) := dk_3 (dk_at dksX0_claim_1 9 rfl rfl)
theorem dX0_claim_32 : decode cX0_claim 32 = .ok (.istore 5, 2) := dk_54 5 (dk_at dksX0_claim_1 10 rfl rfl)
theorem dX0_claim_34 : decode cX0_claim 34 = .ok (.iload 5, 2) := dk_21 5 (dk_at dksX0_claim_1 12 rfl rfl)
theorem dX0_claim_36 : decode cX0_claim 36 = .ok (.iload 4, 2) := dk_21 4 (dk_at dksX0_claim_1 14 rfl rfl)
theorem dX0_claim_38 : decode cX0_claim 38 = .ok (.if_icmp .ge 21, 3) := dk_162 0 21 (dk_at dksX0_claim_1 16 rfl rfl)
theorem dX0_claim_41 : decode cX0_claim 41 = .ok (.aload_n 3, 1) := dk_45 (dk_at dksX0_claim_1 19 rfl rfl)
theorem dX0_claim_42 : decode cX0_claim 42 = .ok (.iload 5, 2) := dk_21 5 (dk_at dksX0_claim_1 20 rfl rfl)
theorem dX0_claim_44 : decode cX0_claim 44 = .ok (.iaload, 1) := dk_46 (dk_at dksX0_claim_1 22 rfl rfl)
theorem dX0_claim_45 : decode cX0_claim 45 = .ok (.istore 6, 2) := dk_54 6 (dk_at dksX0_claim_2 0 rfl rfl)
theorem dX0_claim_47 : decode cX0_claim 47 = .ok (.aload_n 0, 1) := dk_42 (dk_at dksX0_claim_2 2 rfl rfl)
theorem dX0_claim_48 : decode cX0_claim 48 = .ok (.iload 6, 2) := dk_21 6 (dk_at dksX0_claim_2 3 rfl rfl)
theorem dX0_claim_50 : decode cX0_claim 50 = .ok (.invokevirtual 187, 3) := dk_182 0 187 (dk_at dksX0_claim_2 5 rfl rfl)
theorem dX0_claim_53 : decode cX0_claim 53 = .ok (.iinc 5 1, 3) := dk_132 5 1 (dk_at dksX0_claim_2 8 rfl rfl)
theorem dX0_claim_56 : decode cX0_claim 56 = .ok (.goto (-22), 3) := dk_167 255 234 (dk_at dksX0_claim_2 11 rfl rfl)
theorem dX0_claim_59 : decode cX0_claim 59 = .ok (.aload_n 0, 1) := dk_42 (dk_at dksX0_claim_2 14 rfl rfl)
theorem dX0_claim_60 : decode cX0_claim 60 = .ok (.invokevirtual 190, 3) := dk_182 0 190 (dk_at dksX0_claim_2 15 rfl rfl)
theorem dX0_claim_63 : decode cX0_claim 63 = .ok (.aload_n 0, 1) := dk_42 (dk_at dksX0_claim_2 18 rfl rfl)
theorem dX0_claim_64 : decode cX0_claim 64 = .ok (.getfield 480, 3) := dk_180 1 224 (dk_at dksX0_claim_2 19 rfl rfl)
theorem dX0_claim_67 : decode cX0_claim 67 = .ok (.sipush 800, 3) := dk_17 3 32 (dk_at dksX0_claim_3 0 rfl rfl)
theorem dX0_claim_70 : decode cX0_claim 70 = .ok (.if_icmp .eq 23, 3) := dk_159 0 23 (dk_at dksX0_claim_3 3 rfl rfl)
theorem dX0_claim_73 : decode cX0_claim 73 = .ok (.aload_n 0, 1) := dk_42 (dk_at dksX0_claim_3 6 rfl rfl)
theorem dX0_claim_74 : decode cX0_claim 74 = .ok (.getfield 84, 3) := dk_180 0 84 (dk_at dksX0_claim_3 7 rfl rfl)
theorem dX0_claim_77 : decode cX0_claim 77 = .ok (.aload_n 0, 1) := dk_42 (dk_at dksX0_claim_3 10 rfl rfl)
theorem dX0_claim_78 : decode cX0_claim 78 = .ok (.getfield 480, 3) := dk_180 1 224 (dk_at dksX0_claim_3 11 rfl rfl)
theorem dX0_claim_81 : decode cX0_claim 81 = .ok (.iaload, 1) := dk_46 (dk_at dksX0_claim_3 14 rfl rfl)
theorem dX0_claim_82 : decode cX0_claim 82 = .ok (.aload_n 0, 1) := dk_42 (dk_at dksX0_claim_3 15 rfl rfl)
theorem dX0_claim_83 : decode cX0_claim 83 = .ok (.getfield 181, 3) := dk_180 0 181 (dk_at dksX0_claim_3 16 rfl rfl)
theorem dX0_claim_86 : decode cX0_claim 86 = .ok (.iadd, 1) := dk_96 (dk_at dksX0_claim_3 19 rfl rfl)
theorem dX0_claim_87 : decode cX0_claim 87 = .ok (.sipush 8000, 3) := dk_17 31 64 (dk_at dksX0_claim_3 20 rfl rfl)
theorem dX0_claim_90 : decode cX0_claim 90 = .ok (.if_icmp .le 11, 3) := dk_164 0 11 (dk_at dksX0_claim_4 0 rfl rfl)
theorem dX0_claim_93 : decode cX0_claim 93 = .ok (.aload_n 0, 1) := dk_42 (dk_at dksX0_claim_4 3 rfl rfl)
theorem dX0_claim_94 : decode cX0_claim 94 = .ok (.sipush (-1003), 3) := dk_17 252 21 (dk_at dksX0_claim_4 4 rfl rfl)
theorem dX0_claim_97 : decode cX0_claim 97 = .ok (.invokevirtual 124, 3) := dk_182 0 124 (dk_at dksX0_claim_4 7 rfl rfl)
theorem dX0_claim_100 : decode cX0_claim 100 = .ok (.ireturn, 1) := dk_172 (dk_at dksX0_claim_4 10 rfl rfl)
theorem dX0_claim_101 : decode cX0_claim 101 = .ok (.aload_n 0, 1) := dk_42 (dk_at dksX0_claim_4 11 rfl rfl)
theorem dX0_claim_102 : decode cX0_claim 102 = .ok (.getfield 31, 3) := dk_180 0 31 (dk_at dksX0_claim_4 12 rfl rfl)
theorem dX0_claim_105 : decode cX0_claim 105 = .ok (.iconst 0, 1) := dk_3 (dk_at dksX0_claim_4 15 rfl rfl)
theorem dX0_claim_106 : decode cX0_claim 106 = .ok (.aload_n 0, 1) := dk_42 (dk_at dksX0_claim_4 16 rfl rfl)
theorem dX0_claim_107 : decode cX0_claim 107 = .ok (.getfield 81, 3) := dk_180 0 81 (dk_at dksX0_claim_4 17 rfl rfl)
theorem dX0_claim_110 : decode cX0_claim 110 = .ok (.aload_n 0, 1) := dk_42 (dk_at dksX0_claim_4 20 rfl rfl)
theorem dX0_claim_111 : decode cX0_claim 111 = .ok (.getfield 84, 3) := dk_180 0 84 (dk_at dksX0_claim_4 21 rfl rfl)
theorem dX0_claim_114 : decode cX0_claim 114 = .ok (.aload_n 0, 1) := dk_42 (dk_at dksX0_claim_5 0 rfl rfl)
theorem dX0_claim_115 : decode cX0_claim 115 = .ok (.getfield 480, 3) := dk_180 1 224 (dk_at dksX0_claim_5 1 rfl rfl)
theorem dX0_claim_118 : decode cX0_claim 118 = .ok (.iaload, 1) := dk_46 (dk_at dksX0_claim_5 4 rfl rfl)
theorem dX0_claim_119 : decode cX0_claim 119 = .ok (.aload_n 0, 1) := dk_42 (dk_at dksX0_claim_5 5 rfl rfl)
theorem dX0_claim_120 : decode cX0_claim 120 = .ok (.getfield 181, 3) := dk_180 0 181 (dk_at dksX0_claim_5 6 rfl rfl)
theorem dX0_claim_123 : decode cX0_claim 123 = .ok (.invokestatic 144, 3) := dk_184 0 144 (dk_at dksX0_claim_5 9 rfl rfl)
theorem dX0_claim_126 : decode cX0_claim 126 = .ok (.aload_n 0, 1) := dk_42 (dk_at dksX0_claim_5 12 rfl rfl)
theorem dX0_claim_127 : decode cX0_claim 127 = .ok (.dup, 1) := dk_89 (dk_at dksX0_claim_5 13 rfl rfl)
theorem dX0_claim_128 : decode cX0_claim 128 = .ok (.getfield 480, 3) := dk_180 1 224 (dk_at dksX0_claim_5 14 rfl rfl)
theorem dX0_claim_131 : decode cX0_claim 131 = .ok (.iconst 1, 1) := dk_4 (dk_at dksX0_claim_5 17 rfl rfl)
theorem dX0_claim_132 : decode cX0_claim 132 = .ok (.iadd, 1) := dk_96 (dk_at dksX0_claim_5 18 rfl rfl)
theorem dX0_claim_133 : decode cX0_claim 133 = .ok (.putfield 480, 3) := dk_181 1 224 (dk_at dksX0_claim_5 19 rfl rfl)
theorem dX0_claim_136 : decode cX0_claim 136 = .ok (.aload_n 0, 1) := dk_42 (dk_at dksX0_claim_5 22 rfl rfl)
theorem dX0_claim_137 : decode cX0_claim 137 = .ok (.getfield 84, 3) := dk_180 0 84 (dk_at dksX0_claim_6 0 rfl rfl)
theorem dX0_claim_140 : decode cX0_claim 140 = .ok (.aload_n 0, 1) := dk_42 (dk_at dksX0_claim_6 3 rfl rfl)
theorem dX0_claim_141 : decode cX0_claim 141 = .ok (.getfield 480, 3) := dk_180 1 224 (dk_at dksX0_claim_6 4 rfl rfl)
theorem dX0_claim_144 : decode cX0_claim 144 = .ok (.aload_n 0, 1) := dk_42 (dk_at dksX0_claim_6 7 rfl rfl)
theorem dX0_claim_145 : decode cX0_claim 145 = .ok (.getfield 84, 3) := dk_180 0 84 (dk_at dksX0_claim_6 8 rfl rfl)
theorem dX0_claim_148 : decode cX0_claim 148 = .ok (.aload_n 0, 1) := dk_42 (dk_at dksX0_claim_6 11 rfl rfl)
theorem dX0_claim_149 : decode cX0_claim 149 = .ok (.getfield 480, 3) := dk_180 1 224 (dk_at dksX0_claim_6 12 rfl rfl)
theorem dX0_claim_152 : decode cX0_claim 152 = .ok (.iconst 1, 1) := dk_4 (dk_at dksX0_claim_6 15 rfl rfl)
theorem dX0_claim_153 : decode cX0_claim 153 = .ok (.isub, 1) := dk_100 (dk_at dksX0_claim_6 16 rfl rfl)
theorem dX0_claim_154 : decode cX0_claim 154 = .ok (.iaload, 1) := dk_46 (dk_at dksX0_claim_6 17 rfl rfl)
theorem dX0_claim_155 : decode cX0_claim 155 = .ok (.aload_n 0, 1) := dk_42 (dk_at dksX0_claim_6 18 rfl rfl)
theorem dX0_claim_156 : decode cX0_claim 156 = .ok (.getfield 181, 3) := dk_180 0 181 (dk_at dksX0_claim_6 19 rfl rfl)
theorem dX0_claim_159 : decode cX0_claim 159 = .ok (.iadd, 1) := dk_96 (dk_at dksX0_claim_6 22 rfl rfl)
theorem dX0_claim_160 : decode cX0_claim 160 = .ok (.iastore, 1) := dk_79 (dk_at dksX0_claim_6 23 rfl rfl)
theorem dX0_claim_161 : decode cX0_claim 161 = .ok (.aload_n 0, 1) := dk_42 (dk_at dksX0_claim_7 0 rfl rfl)
theorem dX0_claim_162 : decode cX0_claim 162 = .ok (.getfield 480, 3) := dk_180 1 224 (dk_at dksX0_claim_7 1 rfl rfl)
theorem dX0_claim_165 : decode cX0_claim 165 = .ok (.ireturn, 1) := dk_172 (dk_at dksX0_claim_7 4 rfl rfl)
theorem dX0_claim_166 : decode cX0_claim 166 = .ok (.astore_n 2, 1) := dk_77 (dk_at dksX0_claim_7 5 rfl rfl)
theorem dX0_claim_167 : decode cX0_claim 167 = .ok (.aload_n 0, 1) := dk_42 (dk_at dksX0_claim_7 6 rfl rfl)
theorem dX0_claim_168 : decode cX0_claim 168 = .ok (.sipush (-1011), 3) := dk_17 252 13 (dk_at dksX0_claim_7 7 rfl rfl)
theorem dX0_claim_171 : decode cX0_claim 171 = .ok (.invokevirtual 124, 3) := dk_182 0 124 (dk_at dksX0_claim_7 10 rfl rfl)
theorem dX0_claim_174 : decode cX0_claim 174 = .ok (.ireturn, 1) := dk_172 (dk_at dksX0_claim_7 13 rfl rfl)
theorem dX0_claim_175 : decode cX0_claim 175 = .ok (.astore_n 2, 1) := dk_77 (dk_at dksX0_claim_7 14 rfl rfl)
theorem dX0_claim_176 : decode cX0_claim 176 = .ok (.aload_n 0, 1) := dk_42 (dk_at dksX0_claim_7 15 rfl rfl)
theorem dX0_claim_177 : decode cX0_claim 177 = .ok (.sipush (-1012), 3) := dk_17 252 12 (dk_at dksX0_claim_7 16 rfl rfl)
theorem dX0_claim_180 : decode cX0_claim 180 = .ok (.invokevirtual 124, 3) := dk_182 0 124 (dk_at dksX0_claim_7 19 rfl rfl)
theorem dX0_claim_183 : decode cX0_claim 183 = .ok (.ireturn, 1) := dk_172 (dk_at dksX0_claim_7 22 rfl rfl)
abbrev cX0_strike : ByteArray := prog_1_method_74_code
def yX0_strike : MethodName := ⟨RX0, "strike", "(I)I"⟩
def dkwX0_strike_5 : List UInt8 := [181, 1, 224, 4, 172]
abbrev dktX0_strike_5 : List UInt8 := dkwX0_strike_5 ++ []
def dkwX0_strike_4 : List UInt8 := [42, 180, 0, 84, 29, 4, 96, 46, 28, 100, 79, 132, 3, 1, 167, 255, 229, 42, 89, 180, 1, 224, 4, 100]
abbrev dktX0_strike_4 : List UInt8 := dkwX0_strike_4 ++ dktX0_strike_5
def dkwX0_strike_3 : List UInt8 := [4, 96, 46, 100, 184, 0, 144, 27, 4, 96, 62, 29, 42, 180, 1, 224, 162, 0, 25, 42, 180, 0, 84, 29]
abbrev dktX0_strike_3 : List UInt8 := dkwX0_strike_3 ++ dktX0_strike_4
def dkwX0_strike_2 : List UInt8 := [42, 180, 0, 81, 42, 180, 0, 84, 27, 46, 42, 180, 0, 84, 42, 180, 1, 224, 46, 42, 180, 0, 84, 27]
abbrev dktX0_strike_2 : List UInt8 := dkwX0_strike_2 ++ dktX0_strike_3
def dkwX0_strike_1 : List UInt8 := [27, 4, 96, 46, 42, 180, 0, 84, 27, 46, 100, 61, 42, 180, 0, 81, 42, 180, 0, 84, 27, 4, 96, 46]
abbrev dktX0_strike_1 : List UInt8 := dkwX0_strike_1 ++ dktX0_strike_2
def dkwX0_strike_0 : List UInt8 := [27, 133, 9, 42, 180, 1, 224, 4, 100, 133, 184, 0, 109, 154, 0, 7, 17, 252, 19, 172, 42, 180, 0, 84]
abbrev dktX0_strike_0 : List UInt8 := dkwX0_strike_0 ++ dktX0_strike_1
theorem dksX0_strike_0 : cX0_strike.data.toList.drop 0 = dktX0_strike_0 := by decide +kernel
theorem dksX0_strike_1 : cX0_strike.data.toList.drop 24 = dktX0_strike_1 := dk_seg dksX0_strike_0 24 rfl rfl
theorem dksX0_strike_2 : cX0_strike.data.toList.drop 48 = dktX0_strike_2 := dk_seg dksX0_strike_1 24 rfl rfl
theorem dksX0_strike_3 : cX0_strike.data.toList.drop 72 = dktX0_strike_3 := dk_seg dksX0_strike_2 24 rfl rfl
theorem dksX0_strike_4 : cX0_strike.data.toList.drop 96 = dktX0_strike_4 := dk_seg dksX0_strike_3 24 rfl rfl
theorem dksX0_strike_5 : cX0_strike.data.toList.drop 120 = dktX0_strike_5 := dk_seg dksX0_strike_4 24 rfl rfl
theorem dX0_strike_0 : decode cX0_strike 0 = .ok (.iload_n 1, 1) := dk_27 (dk_at dksX0_strike_0 0 rfl rfl)
theorem dX0_strike_1 : decode cX0_strike 1 = .ok (.i2l, 1) := dk_133 (dk_at dksX0_strike_0 1 rfl rfl)
theorem dX0_strike_2 : decode cX0_strike 2 = .ok (.lconst 0, 1) := dk_9 (dk_at dksX0_strike_0 2 rfl rfl)
theorem dX0_strike_3 : decode cX0_strike 3 = .ok (.aload_n 0, 1) := dk_42 (dk_at dksX0_strike_0 3 rfl rfl)
theorem dX0_strike_4 : decode cX0_strike 4 = .ok (.getfield 480, 3) := dk_180 1 224 (dk_at dksX0_strike_0 4 rfl rfl)
theorem dX0_strike_7 : decode cX0_strike 7 = .ok (.iconst 1, 1) := dk_4 (dk_at dksX0_strike_0 7 rfl rfl)
theorem dX0_strike_8 : decode cX0_strike 8 = .ok (.isub, 1) := dk_100 (dk_at dksX0_strike_0 8 rfl rfl)
theorem dX0_strike_9 : decode cX0_strike 9 = .ok (.i2l, 1) := dk_133 (dk_at dksX0_strike_0 9 rfl rfl)
theorem dX0_strike_10 : decode cX0_strike 10 = .ok (.invokestatic 109, 3) := dk_184 0 109 (dk_at dksX0_strike_0 10 rfl rfl)
theorem dX0_strike_13 : decode cX0_strike 13 = .ok (.ifCond .ne 7, 3) := dk_154 0 7 (dk_at dksX0_strike_0 13 rfl rfl)
theorem dX0_strike_16 : decode cX0_strike 16 = .ok (.sipush (-1005), 3) := dk_17 252 19 (dk_at dksX0_strike_0 16 rfl rfl)
theorem dX0_strike_19 : decode cX0_strike 19 = .ok (.ireturn, 1) := dk_172 (dk_at dksX0_strike_0 19 rfl rfl)
theorem dX0_strike_20 : decode cX0_strike 20 = .ok (.aload_n 0, 1) := dk_42 (dk_at dksX0_strike_0 20 rfl rfl)
theorem dX0_strike_21 : decode cX0_strike 21 = .ok (.getfield 84, 3) := dk_180 0 84 (dk_at dksX0_strike_0 21 rfl rfl)
theorem dX0_strike_24 : decode cX0_strike 24 = .ok (.iload_n 1, 1) := dk_27 (dk_at dksX0_strike_1 0 rfl rfl)
theorem dX0_strike_25 : decode cX0_strike 25 = .ok (.iconst 1, 1) := dk_4 (dk_at dksX0_strike_1 1 rfl rfl)
theorem dX0_strike_26 : decode cX0_strike 26 = .ok (.iadd, 1) := dk_96 (dk_at dksX0_strike_1 2 rfl rfl)
theorem dX0_strike_27 : decode cX0_strike 27 = .ok (.iaload, 1) := dk_46 (dk_at dksX0_strike_1 3 rfl rfl)
theorem dX0_strike_28 : decode cX0_strike 28 = .ok (.aload_n 0, 1) := dk_42 (dk_at dksX0_strike_1 4 rfl rfl)
theorem dX0_strike_29 : decode cX0_strike 29 = .ok (.getfield 84, 3) := dk_180 0 84 (dk_at dksX0_strike_1 5 rfl rfl)
theorem dX0_strike_32 : decode cX0_strike 32 = .ok (.iload_n 1, 1) := dk_27 (dk_at dksX0_strike_1 8 rfl rfl)
theorem dX0_strike_33 : decode cX0_strike 33 = .ok (.iaload, 1) := dk_46 (dk_at dksX0_strike_1 9 rfl rfl)
theorem dX0_strike_34 : decode cX0_strike 34 = .ok (.isub, 1) := dk_100 (dk_at dksX0_strike_1 10 rfl rfl)
theorem dX0_strike_35 : decode cX0_strike 35 = .ok (.istore_n 2, 1) := dk_61 (dk_at dksX0_strike_1 11 rfl rfl)
theorem dX0_strike_36 : decode cX0_strike 36 = .ok (.aload_n 0, 1) := dk_42 (dk_at dksX0_strike_1 12 rfl rfl)
theorem dX0_strike_37 : decode cX0_strike 37 = .ok (.getfield 81, 3) := dk_180 0 81 (dk_at dksX0_strike_1 13 rfl rfl)
theorem dX0_strike_40 : decode cX0_strike 40 = .ok (.aload_n 0, 1) := dk_42 (dk_at dksX0_strike_1 16 rfl rfl)
theorem dX0_strike_41 : decode cX0_strike 41 = .ok (.getfield 84, 3) := dk_180 0 84 (dk_at dksX0_strike_1 17 rfl rfl)
theorem dX0_strike_44 : decode cX0_strike 44 = .ok (.iload_n 1, 1) := dk_27 (dk_at dksX0_strike_1 20 rfl rfl)
theorem dX0_strike_45 : decode cX0_strike 45 = .ok (.iconst 1, 1) := dk_4 (dk_at dksX0_strike_1 21 rfl rfl)
theorem dX0_strike_46 : decode cX0_strike 46 = .ok (.iadd, 1) := dk_96 (dk_at dksX0_strike_1 22 rfl rfl)
theorem dX0_strike_47 : decode cX0_strike 47 = .ok (.iaload, 1) := dk_46 (dk_at dksX0_strike_1 23 rfl rfl)
theorem dX0_strike_48 : decode cX0_strike 48 = .ok (.aload_n 0, 1) := dk_42 (dk_at dksX0_strike_2 0 rfl rfl)
theorem dX0_strike_49 : decode cX0_strike 49 = .ok (.getfield 81, 3) := dk_180 0 81 (dk_at dksX0_strike_2 1 rfl rfl)
theorem dX0_strike_52 : decode cX0_strike 52 = .ok (.aload_n 0, 1) := dk_42 (dk_at dksX0_strike_2 4 rfl rfl)
theorem dX0_strike_53 : decode cX0_strike 53 = .ok (.getfield 84, 3) := dk_180 0 84 (dk_at dksX0_strike_2 5 rfl rfl)
theorem dX0_strike_56 : decode cX0_strike 56 = .ok (.iload_n 1, 1) := dk_27 (dk_at dksX0_strike_2 8 rfl rfl)
theorem dX0_strike_57 : decode cX0_strike 57 = .ok (.iaload, 1) := dk_46 (dk_at dksX0_strike_2 9 rfl rfl)
theorem dX0_strike_58 : decode cX0_strike 58 = .ok (.aload_n 0, 1) := dk_42 (dk_at dksX0_strike_2 10 rfl rfl)
theorem dX0_strike_59 : decode cX0_strike 59 = .ok (.getfield 84, 3) := dk_180 0 84 (dk_at dksX0_strike_2 11 rfl rfl)
theorem dX0_strike_62 : decode cX0_strike 62 = .ok (.aload_n 0, 1) := dk_42 (dk_at dksX0_strike_2 14 rfl rfl)
theorem dX0_strike_63 : decode cX0_strike 63 = .ok (.getfield 480, 3) := dk_180 1 224 (dk_at dksX0_strike_2 15 rfl rfl)
theorem dX0_strike_66 : decode cX0_strike 66 = .ok (.iaload, 1) := dk_46 (dk_at dksX0_strike_2 18 rfl rfl)
theorem dX0_strike_67 : decode cX0_strike 67 = .ok (.aload_n 0, 1) := dk_42 (dk_at dksX0_strike_2 19 rfl rfl)
theorem dX0_strike_68 : decode cX0_strike 68 = .ok (.getfield 84, 3) := dk_180 0 84 (dk_at dksX0_strike_2 20 rfl rfl)
theorem dX0_strike_71 : decode cX0_strike 71 = .ok (.iload_n 1, 1) := dk_27 (dk_at dksX0_strike_2 23 rfl rfl)
theorem dX0_strike_72 : decode cX0_strike 72 = .ok (.iconst 1, 1) := dk_4 (dk_at dksX0_strike_3 0 rfl rfl)
theorem dX0_strike_73 : decode cX0_strike 73 = .ok (.iadd, 1) := dk_96 (dk_at dksX0_strike_3 1 rfl rfl)
theorem dX0_strike_74 : decode cX0_strike 74 = .ok (.iaload, 1) := dk_46 (dk_at dksX0_strike_3 2 rfl rfl)
theorem dX0_strike_75 : decode cX0_strike 75 = .ok (.isub, 1) := dk_100 (dk_at dksX0_strike_3 3 rfl rfl)
theorem dX0_strike_76 : decode cX0_strike 76 = .ok (.invokestatic 144, 3) := dk_184 0 144 (dk_at dksX0_strike_3 4 rfl rfl)
theorem dX0_strike_79 : decode cX0_strike 79 = .ok (.iload_n 1, 1) := dk_27 (dk_at dksX0_strike_3 7 rfl rfl)
theorem dX0_strike_80 : decode cX0_strike 80 = .ok (.iconst 1, 1) := dk_4 (dk_at dksX0_strike_3 8 rfl rfl)
theorem dX0_strike_81 : decode cX0_strike 81 = .ok (.iadd, 1) := dk_96 (dk_at dksX0_strike_3 9 rfl rfl)
theorem dX0_strike_82 : decode cX0_strike 82 = .ok (.istore_n 3, 1) := dk_62 (dk_at dksX0_strike_3 10 rfl rfl)
theorem dX0_strike_83 : decode cX0_strike 83 = .ok (.iload_n 3, 1) := dk_29 (dk_at dksX0_strike_3 11 rfl rfl)
theorem dX0_strike_84 : decode cX0_strike 84 = .ok (.aload_n 0, 1) := dk_42 (dk_at dksX0_strike_3 12 rfl rfl)
theorem dX0_strike_85 : decode cX0_strike 85 = .ok (.getfield 480, 3) := dk_180 1 224 (dk_at dksX0_strike_3 13 rfl rfl)
theorem dX0_strike_88 : decode cX0_strike 88 = .ok (.if_icmp .ge 25, 3) := dk_162 0 25 (dk_at dksX0_strike_3 16 rfl rfl)
theorem dX0_strike_91 : decode cX0_strike 91 = .ok (.aload_n 0, 1) := dk_42 (dk_at dksX0_strike_3 19 rfl rfl)
theorem dX0_strike_92 : decode cX0_strike 92 = .ok (.getfield 84, 3) := dk_180 0 84 (dk_at dksX0_strike_3 20 rfl rfl)
theorem dX0_strike_95 : decode cX0_strike 95 = .ok (.iload_n 3, 1) := dk_29 (dk_at dksX0_strike_3 23 rfl rfl)
theorem dX0_strike_96 : decode cX0_strike 96 = .ok (.aload_n 0, 1) := dk_42 (dk_at dksX0_strike_4 0 rfl rfl)
theorem dX0_strike_97 : decode cX0_strike 97 = .ok (.getfield 84, 3) := dk_180 0 84 (dk_at dksX0_strike_4 1 rfl rfl)
theorem dX0_strike_100 : decode cX0_strike 100 = .ok (.iload_n 3, 1) := dk_29 (dk_at dksX0_strike_4 4 rfl rfl)
theorem dX0_strike_101 : decode cX0_strike 101 = .ok (.iconst 1, 1) := dk_4 (dk_at dksX0_strike_4 5 rfl rfl)
theorem dX0_strike_102 : decode cX0_strike 102 = .ok (.iadd, 1) := dk_96 (dk_at dksX0_strike_4 6 rfl rfl)
theorem dX0_strike_103 : decode cX0_strike 103 = .ok (.iaload, 1) := dk_46 (dk_at dksX0_strike_4 7 rfl rfl)
theorem dX0_strike_104 : decode cX0_strike 104 = .ok (.iload_n 2, 1) := dk_28 (dk_at dksX0_strike_4 8 rfl rfl)
theorem dX0_strike_105 : decode cX0_strike 105 = .ok (.isub, 1) := dk_100 (dk_at dksX0_strike_4 9 rfl rfl)
theorem dX0_strike_106 : decode cX0_strike 106 = .ok (.iastore, 1) := dk_79 (dk_at dksX0_strike_4 10 rfl rfl)
theorem dX0_strike_107 : decode cX0_strike 107 = .ok (.iinc 3 1, 3) := dk_132 3 1 (dk_at dksX0_strike_4 11 rfl rfl)
theorem dX0_strike_110 : decode cX0_strike 110 = .ok (.goto (-27), 3) := dk_167 255 229 (dk_at dksX0_strike_4 14 rfl rfl)
theorem dX0_strike_113 : decode cX0_strike 113 = .ok (.aload_n 0, 1) := dk_42 (dk_at dksX0_strike_4 17 rfl rfl)
theorem dX0_strike_114 : decode cX0_strike 114 = .ok (.dup, 1) := dk_89 (dk_at dksX0_strike_4 18 rfl rfl)
theorem dX0_strike_115 : decode cX0_strike 115 = .ok (.getfield 480, 3) := dk_180 1 224 (dk_at dksX0_strike_4 19 rfl rfl)
theorem dX0_strike_118 : decode cX0_strike 118 = .ok (.iconst 1, 1) := dk_4 (dk_at dksX0_strike_4 22 rfl rfl)
theorem dX0_strike_119 : decode cX0_strike 119 = .ok (.isub, 1) := dk_100 (dk_at dksX0_strike_4 23 rfl rfl)
theorem dX0_strike_120 : decode cX0_strike 120 = .ok (.putfield 480, 3) := dk_181 1 224 (dk_at dksX0_strike_5 0 rfl rfl)
theorem dX0_strike_123 : decode cX0_strike 123 = .ok (.iconst 1, 1) := dk_4 (dk_at dksX0_strike_5 3 rfl rfl)
theorem dX0_strike_124 : decode cX0_strike 124 = .ok (.ireturn, 1) := dk_172 (dk_at dksX0_strike_5 4 rfl rfl)
abbrev cX0_proof : ByteArray := prog_1_method_75_code
def yX0_proof : MethodName := ⟨RX0, "proof", "(II)I"⟩
def dkwX0_proof_1 : List UInt8 := [27, 46, 42, 180, 0, 84, 27, 4, 96, 46, 28, 184, 1, 168, 167, 0, 6, 17, 252, 19, 172]
abbrev dktX0_proof_1 : List UInt8 := dkwX0_proof_1 ++ []
def dkwX0_proof_0 : List UInt8 := [27, 133, 9, 42, 180, 1, 224, 4, 100, 133, 184, 0, 109, 153, 0, 28, 42, 180, 0, 81, 42, 180, 0, 84]
abbrev dktX0_proof_0 : List UInt8 := dkwX0_proof_0 ++ dktX0_proof_1
theorem dksX0_proof_0 : cX0_proof.data.toList.drop 0 = dktX0_proof_0 := by decide +kernel
theorem dksX0_proof_1 : cX0_proof.data.toList.drop 24 = dktX0_proof_1 := dk_seg dksX0_proof_0 24 rfl rfl
theorem dX0_proof_0 : decode cX0_proof 0 = .ok (.iload_n 1, 1) := dk_27 (dk_at dksX0_proof_0 0 rfl rfl)
theorem dX0_proof_1 : decode cX0_proof 1 = .ok (.i2l, 1) := dk_133 (dk_at dksX0_proof_0 1 rfl rfl)
theorem dX0_proof_2 : decode cX0_proof 2 = .ok (.lconst 0, 1) := dk_9 (dk_at dksX0_proof_0 2 rfl rfl)
theorem dX0_proof_3 : decode cX0_proof 3 = .ok (.aload_n 0, 1) := dk_42 (dk_at dksX0_proof_0 3 rfl rfl)
theorem dX0_proof_4 : decode cX0_proof 4 = .ok (.getfield 480, 3) := dk_180 1 224 (dk_at dksX0_proof_0 4 rfl rfl)
theorem dX0_proof_7 : decode cX0_proof 7 = .ok (.iconst 1, 1) := dk_4 (dk_at dksX0_proof_0 7 rfl rfl)
theorem dX0_proof_8 : decode cX0_proof 8 = .ok (.isub, 1) := dk_100 (dk_at dksX0_proof_0 8 rfl rfl)
theorem dX0_proof_9 : decode cX0_proof 9 = .ok (.i2l, 1) := dk_133 (dk_at dksX0_proof_0 9 rfl rfl)
theorem dX0_proof_10 : decode cX0_proof 10 = .ok (.invokestatic 109, 3) := dk_184 0 109 (dk_at dksX0_proof_0 10 rfl rfl)
theorem dX0_proof_13 : decode cX0_proof 13 = .ok (.ifCond .eq 28, 3) := dk_153 0 28 (dk_at dksX0_proof_0 13 rfl rfl)
theorem dX0_proof_16 : decode cX0_proof 16 = .ok (.aload_n 0, 1) := dk_42 (dk_at dksX0_proof_0 16 rfl rfl)
theorem dX0_proof_17 : decode cX0_proof 17 = .ok (.getfield 81, 3) := dk_180 0 81 (dk_at dksX0_proof_0 17 rfl rfl)
theorem dX0_proof_20 : decode cX0_proof 20 = .ok (.aload_n 0, 1) := dk_42 (dk_at dksX0_proof_0 20 rfl rfl)
theorem dX0_proof_21 : decode cX0_proof 21 = .ok (.getfield 84, 3) := dk_180 0 84 (dk_at dksX0_proof_0 21 rfl rfl)
theorem dX0_proof_24 : decode cX0_proof 24 = .ok (.iload_n 1, 1) := dk_27 (dk_at dksX0_proof_1 0 rfl rfl)
theorem dX0_proof_25 : decode cX0_proof 25 = .ok (.iaload, 1) := dk_46 (dk_at dksX0_proof_1 1 rfl rfl)
theorem dX0_proof_26 : decode cX0_proof 26 = .ok (.aload_n 0, 1) := dk_42 (dk_at dksX0_proof_1 2 rfl rfl)
theorem dX0_proof_27 : decode cX0_proof 27 = .ok (.getfield 84, 3) := dk_180 0 84 (dk_at dksX0_proof_1 3 rfl rfl)
theorem dX0_proof_30 : decode cX0_proof 30 = .ok (.iload_n 1, 1) := dk_27 (dk_at dksX0_proof_1 6 rfl rfl)
theorem dX0_proof_31 : decode cX0_proof 31 = .ok (.iconst 1, 1) := dk_4 (dk_at dksX0_proof_1 7 rfl rfl)
theorem dX0_proof_32 : decode cX0_proof 32 = .ok (.iadd, 1) := dk_96 (dk_at dksX0_proof_1 8 rfl rfl)
theorem dX0_proof_33 : decode cX0_proof 33 = .ok (.iaload, 1) := dk_46 (dk_at dksX0_proof_1 9 rfl rfl)
theorem dX0_proof_34 : decode cX0_proof 34 = .ok (.iload_n 2, 1) := dk_28 (dk_at dksX0_proof_1 10 rfl rfl)
theorem dX0_proof_35 : decode cX0_proof 35 = .ok (.invokestatic 424, 3) := dk_184 1 168 (dk_at dksX0_proof_1 11 rfl rfl)
theorem dX0_proof_38 : decode cX0_proof 38 = .ok (.goto 6, 3) := dk_167 0 6 (dk_at dksX0_proof_1 14 rfl rfl)
theorem dX0_proof_41 : decode cX0_proof 41 = .ok (.sipush (-1005), 3) := dk_17 252 19 (dk_at dksX0_proof_1 17 rfl rfl)
theorem dX0_proof_44 : decode cX0_proof 44 = .ok (.ireturn, 1) := dk_172 (dk_at dksX0_proof_1 20 rfl rfl)
abbrev cX0_check : ByteArray := prog_1_method_78_code
def yX0_check : MethodName := ⟨RX0, "check", "()I"⟩
def dkwX0_check_4 : List UInt8 := [181, 0, 87, 3, 172, 4, 172]
abbrev dktX0_check_4 : List UInt8 := dkwX0_check_4 ++ []
def dkwX0_check_3 : List UInt8 := [96, 46, 182, 1, 249, 132, 1, 1, 167, 255, 200, 42, 182, 1, 252, 154, 0, 13, 42, 42, 180, 1, 224]
abbrev dktX0_check_3 : List UInt8 := dkwX0_check_3 ++ dktX0_check_4
def dkwX0_check_2 : List UInt8 := [180, 0, 58, 17, 2, 52, 27, 96, 42, 180, 0, 81, 42, 180, 0, 84, 27, 46, 42, 180, 0, 84, 27, 4]
abbrev dktX0_check_2 : List UInt8 := dkwX0_check_2 ++ dktX0_check_3
def dkwX0_check_1 : List UInt8 := [27, 42, 180, 1, 224, 162, 0, 54, 42, 27, 182, 1, 246, 154, 0, 10, 42, 27, 181, 0, 87, 3, 172, 42]
abbrev dktX0_check_1 : List UInt8 := dkwX0_check_1 ++ dktX0_check_2
def dkwX0_check_0 : List UInt8 := [42, 180, 0, 58, 182, 1, 96, 42, 180, 0, 58, 1, 182, 1, 99, 42, 17, 252, 19, 181, 0, 87, 3, 60]
abbrev dktX0_check_0 : List UInt8 := dkwX0_check_0 ++ dktX0_check_1
theorem dksX0_check_0 : cX0_check.data.toList.drop 0 = dktX0_check_0 := by decide +kernel
theorem dksX0_check_1 : cX0_check.data.toList.drop 24 = dktX0_check_1 := dk_seg dksX0_check_0 24 rfl rfl
theorem dksX0_check_2 : cX0_check.data.toList.drop 48 = dktX0_check_2 := dk_seg dksX0_check_1 24 rfl rfl
theorem dksX0_check_3 : cX0_check.data.toList.drop 72 = dktX0_check_3 := dk_seg dksX0_check_2 24 rfl rfl
theorem dksX0_check_4 : cX0_check.data.toList.drop 95 = dktX0_check_4 := dk_seg dksX0_check_3 23 rfl rfl
theorem dX0_check_0 : decode cX0_check 0 = .ok (.aload_n 0, 1) := dk_42 (dk_at dksX0_check_0 0 rfl rfl)
theorem dX0_check_1 : decode cX0_check 1 = .ok (.getfield 58, 3) := dk_180 0 58 (dk_at dksX0_check_0 1 rfl rfl)
theorem dX0_check_4 : decode cX0_check 4 = .ok (.invokevirtual 352, 3) := dk_182 1 96 (dk_at dksX0_check_0 4 rfl rfl)
theorem dX0_check_7 : decode cX0_check 7 = .ok (.aload_n 0, 1) := dk_42 (dk_at dksX0_check_0 7 rfl rfl)
theorem dX0_check_8 : decode cX0_check 8 = .ok (.getfield 58, 3) := dk_180 0 58 (dk_at dksX0_check_0 8 rfl rfl)
theorem dX0_check_11 : decode cX0_check 11 = .ok (.aconst_null, 1) := dk_1 (dk_at dksX0_check_0 11 rfl rfl)
theorem dX0_check_12 : decode cX0_check 12 = .ok (.invokevirtual 355, 3) := dk_182 1 99 (dk_at dksX0_check_0 12 rfl rfl)
theorem dX0_check_15 : decode cX0_check 15 = .ok (.aload_n 0, 1) := dk_42 (dk_at dksX0_check_0 15 rfl rfl)
theorem dX0_check_16 : decode cX0_check 16 = .ok (.sipush (-1005), 3) := dk_17 252 19 (dk_at dksX0_check_0 16 rfl rfl)
theorem dX0_check_19 : decode cX0_check 19 = .ok (.putfield 87, 3) := dk_181 0 87 (dk_at dksX0_check_0 19 rfl rfl)
theorem dX0_check_22 : decode cX0_check 22 = .ok (.iconst 0, 1) := dk_3 (dk_at dksX0_check_0 22 rfl rfl)
theorem dX0_check_23 : decode cX0_check 23 = .ok (.istore_n 1, 1) := dk_60 (dk_at dksX0_check_0 23 rfl rfl)
theorem dX0_check_24 : decode cX0_check 24 = .ok (.iload_n 1, 1) := dk_27 (dk_at dksX0_check_1 0 rfl rfl)
theorem dX0_check_25 : decode cX0_check 25 = .ok (.aload_n 0, 1) := dk_42 (dk_at dksX0_check_1 1 rfl rfl)
theorem dX0_check_26 : decode cX0_check 26 = .ok (.getfield 480, 3) := dk_180 1 224 (dk_at dksX0_check_1 2 rfl rfl)
theorem dX0_check_29 : decode cX0_check 29 = .ok (.if_icmp .ge 54, 3) := dk_162 0 54 (dk_at dksX0_check_1 5 rfl rfl)
theorem dX0_check_32 : decode cX0_check 32 = .ok (.aload_n 0, 1) := dk_42 (dk_at dksX0_check_1 8 rfl rfl)
theorem dX0_check_33 : decode cX0_check 33 = .ok (.iload_n 1, 1) := dk_27 (dk_at dksX0_check_1 9 rfl rfl)
theorem dX0_check_34 : decode cX0_check 34 = .ok (.invokevirtual 502, 3) := dk_182 1 246 (dk_at dksX0_check_1 10 rfl rfl)
theorem dX0_check_37 : decode cX0_check 37 = .ok (.ifCond .ne 10, 3) := dk_154 0 10 (dk_at dksX0_check_1 13 rfl rfl)
theorem dX0_check_40 : decode cX0_check 40 = .ok (.aload_n 0, 1) := dk_42 (dk_at dksX0_check_1 16 rfl rfl)
theorem dX0_check_41 : decode cX0_check 41 = .ok (.iload_n 1, 1) := dk_27 (dk_at dksX0_check_1 17 rfl rfl)
theorem dX0_check_42 : decode cX0_check 42 = .ok (.putfield 87, 3) := dk_181 0 87 (dk_at dksX0_check_1 18 rfl rfl)
theorem dX0_check_45 : decode cX0_check 45 = .ok (.iconst 0, 1) := dk_3 (dk_at dksX0_check_1 21 rfl rfl)
theorem dX0_check_46 : decode cX0_check 46 = .ok (.ireturn, 1) := dk_172 (dk_at dksX0_check_1 22 rfl rfl)
theorem dX0_check_47 : decode cX0_check 47 = .ok (.aload_n 0, 1) := dk_42 (dk_at dksX0_check_1 23 rfl rfl)
theorem dX0_check_48 : decode cX0_check 48 = .ok (.getfield 58, 3) := dk_180 0 58 (dk_at dksX0_check_2 0 rfl rfl)
theorem dX0_check_51 : decode cX0_check 51 = .ok (.sipush 564, 3) := dk_17 2 52 (dk_at dksX0_check_2 3 rfl rfl)
theorem dX0_check_54 : decode cX0_check 54 = .ok (.iload_n 1, 1) := dk_27 (dk_at dksX0_check_2 6 rfl rfl)
theorem dX0_check_55 : decode cX0_check 55 = .ok (.iadd, 1) := dk_96 (dk_at dksX0_check_2 7 rfl rfl)
theorem dX0_check_56 : decode cX0_check 56 = .ok (.aload_n 0, 1) := dk_42 (dk_at dksX0_check_2 8 rfl rfl)
theorem dX0_check_57 : decode cX0_check 57 = .ok (.getfield 81, 3) := dk_180 0 81 (dk_at dksX0_check_2 9 rfl rfl)
theorem dX0_check_60 : decode cX0_check 60 = .ok (.aload_n 0, 1) := dk_42 (dk_at dksX0_check_2 12 rfl rfl)
theorem dX0_check_61 : decode cX0_check 61 = .ok (.getfield 84, 3) := dk_180 0 84 (dk_at dksX0_check_2 13 rfl rfl)
theorem dX0_check_64 : decode cX0_check 64 = .ok (.iload_n 1, 1) := dk_27 (dk_at dksX0_check_2 16 rfl rfl)
theorem dX0_check_65 : decode cX0_check 65 = .ok (.iaload, 1) := dk_46 (dk_at dksX0_check_2 17 rfl rfl)
theorem dX0_check_66 : decode cX0_check 66 = .ok (.aload_n 0, 1) := dk_42 (dk_at dksX0_check_2 18 rfl rfl)
theorem dX0_check_67 : decode cX0_check 67 = .ok (.getfield 84, 3) := dk_180 0 84 (dk_at dksX0_check_2 19 rfl rfl)
theorem dX0_check_70 : decode cX0_check 70 = .ok (.iload_n 1, 1) := dk_27 (dk_at dksX0_check_2 22 rfl rfl)
theorem dX0_check_71 : decode cX0_check 71 = .ok (.iconst 1, 1) := dk_4 (dk_at dksX0_check_2 23 rfl rfl)
theorem dX0_check_72 : decode cX0_check 72 = .ok (.iadd, 1) := dk_96 (dk_at dksX0_check_3 0 rfl rfl)
theorem dX0_check_73 : decode cX0_check 73 = .ok (.iaload, 1) := dk_46 (dk_at dksX0_check_3 1 rfl rfl)
theorem dX0_check_74 : decode cX0_check 74 = .ok (.invokevirtual 505, 3) := dk_182 1 249 (dk_at dksX0_check_3 2 rfl rfl)
theorem dX0_check_77 : decode cX0_check 77 = .ok (.iinc 1 1, 3) := dk_132 1 1 (dk_at dksX0_check_3 5 rfl rfl)
theorem dX0_check_80 : decode cX0_check 80 = .ok (.goto (-56), 3) := dk_167 255 200 (dk_at dksX0_check_3 8 rfl rfl)
theorem dX0_check_83 : decode cX0_check 83 = .ok (.aload_n 0, 1) := dk_42 (dk_at dksX0_check_3 11 rfl rfl)
theorem dX0_check_84 : decode cX0_check 84 = .ok (.invokevirtual 508, 3) := dk_182 1 252 (dk_at dksX0_check_3 12 rfl rfl)
theorem dX0_check_87 : decode cX0_check 87 = .ok (.ifCond .ne 13, 3) := dk_154 0 13 (dk_at dksX0_check_3 15 rfl rfl)
theorem dX0_check_90 : decode cX0_check 90 = .ok (.aload_n 0, 1) := dk_42 (dk_at dksX0_check_3 18 rfl rfl)
theorem dX0_check_91 : decode cX0_check 91 = .ok (.aload_n 0, 1) := dk_42 (dk_at dksX0_check_3 19 rfl rfl)
theorem dX0_check_92 : decode cX0_check 92 = .ok (.getfield 480, 3) := dk_180 1 224 (dk_at dksX0_check_3 20 rfl rfl)
theorem dX0_check_95 : decode cX0_check 95 = .ok (.putfield 87, 3) := dk_181 0 87 (dk_at dksX0_check_4 0 rfl rfl)
theorem dX0_check_98 : decode cX0_check 98 = .ok (.iconst 0, 1) := dk_3 (dk_at dksX0_check_4 3 rfl rfl)
theorem dX0_check_99 : decode cX0_check 99 = .ok (.ireturn, 1) := dk_172 (dk_at dksX0_check_4 4 rfl rfl)
theorem dX0_check_100 : decode cX0_check 100 = .ok (.iconst 1, 1) := dk_4 (dk_at dksX0_check_4 5 rfl rfl)
theorem dX0_check_101 : decode cX0_check 101 = .ok (.ireturn, 1) := dk_172 (dk_at dksX0_check_4 6 rfl rfl)
abbrev cX0_follows : ByteArray := prog_1_method_76_code
def yX0_follows : MethodName := ⟨RX0, "follows", "(I)Z"⟩
def dkwX0_follows_5 : List UInt8 := [180, 0, 58, 3, 182, 1, 243, 29, 172, 58, 4, 42, 180, 0, 58, 3, 182, 1, 243, 25, 4, 191]
abbrev dktX0_follows_5 : List UInt8 := dkwX0_follows_5 ++ []
def dkwX0_follows_4 : List UInt8 := [154, 0, 16, 42, 180, 0, 58, 182, 1, 240, 17, 252, 19, 159, 0, 7, 4, 167, 0, 4, 3, 62, 42]
abbrev dktX0_follows_4 : List UInt8 := dkwX0_follows_4 ++ dktX0_follows_5
def dkwX0_follows_3 : List UInt8 := [42, 180, 0, 58, 42, 180, 0, 81, 29, 46, 116, 17, 252, 19, 182, 1, 237, 132, 3, 1, 167, 255, 203, 28]
abbrev dktX0_follows_3 : List UInt8 := dkwX0_follows_3 ++ dktX0_follows_4
def dkwX0_follows_2 : List UInt8 := [162, 0, 47, 42, 180, 0, 58, 42, 180, 0, 81, 29, 46, 182, 1, 234, 153, 0, 8, 4, 61, 167, 0, 26]
abbrev dktX0_follows_2 : List UInt8 := dkwX0_follows_2 ++ dktX0_follows_3
def dkwX0_follows_1 : List UInt8 := [19, 1, 233, 181, 1, 211, 3, 61, 42, 180, 0, 84, 27, 46, 62, 29, 42, 180, 0, 84, 27, 4, 96, 46]
abbrev dktX0_follows_1 : List UInt8 := dkwX0_follows_1 ++ dktX0_follows_2
def dkwX0_follows_0 : List UInt8 := [42, 180, 0, 58, 4, 181, 1, 227, 42, 180, 0, 58, 180, 1, 230, 4, 3, 79, 42, 180, 0, 58]
abbrev dktX0_follows_0 : List UInt8 := dkwX0_follows_0 ++ dktX0_follows_1
theorem dksX0_follows_0 : cX0_follows.data.toList.drop 0 = dktX0_follows_0 := by decide +kernel
theorem dksX0_follows_1 : cX0_follows.data.toList.drop 22 = dktX0_follows_1 := dk_seg dksX0_follows_0 22 rfl rfl
theorem dksX0_follows_2 : cX0_follows.data.toList.drop 46 = dktX0_follows_2 := dk_seg dksX0_follows_1 24 rfl rfl
theorem dksX0_follows_3 : cX0_follows.data.toList.drop 70 = dktX0_follows_3 := dk_seg dksX0_follows_2 24 rfl rfl
theorem dksX0_follows_4 : cX0_follows.data.toList.drop 94 = dktX0_follows_4 := dk_seg dksX0_follows_3 24 rfl rfl
theorem dksX0_follows_5 : cX0_follows.data.toList.drop 117 = dktX0_follows_5 := dk_seg dksX0_follows_4 23 rfl rfl
theorem dX0_follows_0 : decode cX0_follows 0 = .ok (.aload_n 0, 1) := dk_42 (dk_at dksX0_follows_0 0 rfl rfl)
theorem dX0_follows_1 : decode cX0_follows 1 = .ok (.getfield 58, 3) := dk_180 0 58 (dk_at dksX0_follows_0 1 rfl rfl)
theorem dX0_follows_4 : decode cX0_follows 4 = .ok (.iconst 1, 1) := dk_4 (dk_at dksX0_follows_0 4 rfl rfl)
theorem dX0_follows_5 : decode cX0_follows 5 = .ok (.putfield 483, 3) := dk_181 1 227 (dk_at dksX0_follows_0 5 rfl rfl)
theorem dX0_follows_8 : decode cX0_follows 8 = .ok (.aload_n 0, 1) := dk_42 (dk_at dksX0_follows_0 8 rfl rfl)
theorem dX0_follows_9 : decode cX0_follows 9 = .ok (.getfield 58, 3) := dk_180 0 58 (dk_at dksX0_follows_0 9 rfl rfl)
theorem dX0_follows_12 : decode cX0_follows 12 = .ok (.getfield 486, 3) := dk_180 1 230 (dk_at dksX0_follows_0 12 rfl rfl)
theorem dX0_follows_15 : decode cX0_follows 15 = .ok (.iconst 1, 1) := dk_4 (dk_at dksX0_follows_0 15 rfl rfl)
theorem dX0_follows_16 : decode cX0_follows 16 = .ok (.iconst 0, 1) := dk_3 (dk_at dksX0_follows_0 16 rfl rfl)
theorem dX0_follows_17 : decode cX0_follows 17 = .ok (.iastore, 1) := dk_79 (dk_at dksX0_follows_0 17 rfl rfl)
theorem dX0_follows_18 : decode cX0_follows 18 = .ok (.aload_n 0, 1) := dk_42 (dk_at dksX0_follows_0 18 rfl rfl)
theorem dX0_follows_19 : decode cX0_follows 19 = .ok (.getfield 58, 3) := dk_180 0 58 (dk_at dksX0_follows_0 19 rfl rfl)
theorem dX0_follows_22 : decode cX0_follows 22 = .ok (.ldc_w 489, 3) := dk_19 1 233 (dk_at dksX0_follows_1 0 rfl rfl)
theorem dX0_follows_25 : decode cX0_follows 25 = .ok (.putfield 467, 3) := dk_181 1 211 (dk_at dksX0_follows_1 3 rfl rfl)
theorem dX0_follows_28 : decode cX0_follows 28 = .ok (.iconst 0, 1) := dk_3 (dk_at dksX0_follows_1 6 rfl rfl)
theorem dX0_follows_29 : decode cX0_follows 29 = .ok (.istore_n 2, 1) := dk_61 (dk_at dksX0_follows_1 7 rfl rfl)
theorem dX0_follows_30 : decode cX0_follows 30 = .ok (.aload_n 0, 1) := dk_42 (dk_at dksX0_follows_1 8 rfl rfl)
theorem dX0_follows_31 : decode cX0_follows 31 = .ok (.getfield 84, 3) := dk_180 0 84 (dk_at dksX0_follows_1 9 rfl rfl)
theorem dX0_follows_34 : decode cX0_follows 34 = .ok (.iload_n 1, 1) := dk_27 (dk_at dksX0_follows_1 12 rfl rfl)
theorem dX0_follows_35 : decode cX0_follows 35 = .ok (.iaload, 1) := dk_46 (dk_at dksX0_follows_1 13 rfl rfl)
theorem dX0_follows_36 : decode cX0_follows 36 = .ok (.istore_n 3, 1) := dk_62 (dk_at dksX0_follows_1 14 rfl rfl)
theorem dX0_follows_37 : decode cX0_follows 37 = .ok (.iload_n 3, 1) := dk_29 (dk_at dksX0_follows_1 15 rfl rfl)
theorem dX0_follows_38 : decode cX0_follows 38 = .ok (.aload_n 0, 1) := dk_42 (dk_at dksX0_follows_1 16 rfl rfl)
theorem dX0_follows_39 : decode cX0_follows 39 = .ok (.getfield 84, 3) := dk_180 0 84 (dk_at dksX0_follows_1 17 rfl rfl)
theorem dX0_follows_42 : decode cX0_follows 42 = .ok (.iload_n 1, 1) := dk_27 (dk_at dksX0_follows_1 20 rfl rfl)
theorem dX0_follows_43 : decode cX0_follows 43 = .ok (.iconst 1, 1) := dk_4 (dk_at dksX0_follows_1 21 rfl rfl)
theorem dX0_follows_44 : decode cX0_follows 44 = .ok (.iadd, 1) := dk_96 (dk_at dksX0_follows_1 22 rfl rfl)
theorem dX0_follows_45 : decode cX0_follows 45 = .ok (.iaload, 1) := dk_46 (dk_at dksX0_follows_1 23 rfl rfl)
theorem dX0_follows_46 : decode cX0_follows 46 = .ok (.if_icmp .ge 47, 3) := dk_162 0 47 (dk_at dksX0_follows_2 0 rfl rfl)
theorem dX0_follows_49 : decode cX0_follows 49 = .ok (.aload_n 0, 1) := dk_42 (dk_at dksX0_follows_2 3 rfl rfl)
theorem dX0_follows_50 : decode cX0_follows 50 = .ok (.getfield 58, 3) := dk_180 0 58 (dk_at dksX0_follows_2 4 rfl rfl)
theorem dX0_follows_53 : decode cX0_follows 53 = .ok (.aload_n 0, 1) := dk_42 (dk_at dksX0_follows_2 7 rfl rfl)
theorem dX0_follows_54 : decode cX0_follows 54 = .ok (.getfield 81, 3) := dk_180 0 81 (dk_at dksX0_follows_2 8 rfl rfl)
theorem dX0_follows_57 : decode cX0_follows 57 = .ok (.iload_n 3, 1) := dk_29 (dk_at dksX0_follows_2 11 rfl rfl)
theorem dX0_follows_58 : decode cX0_follows 58 = .ok (.iaload, 1) := dk_46 (dk_at dksX0_follows_2 12 rfl rfl)
theorem dX0_follows_59 : decode cX0_follows 59 = .ok (.invokevirtual 490, 3) := dk_182 1 234 (dk_at dksX0_follows_2 13 rfl rfl)
theorem dX0_follows_62 : decode cX0_follows 62 = .ok (.ifCond .eq 8, 3) := dk_153 0 8 (dk_at dksX0_follows_2 16 rfl rfl)
theorem dX0_follows_65 : decode cX0_follows 65 = .ok (.iconst 1, 1) := dk_4 (dk_at dksX0_follows_2 19 rfl rfl)
theorem dX0_follows_66 : decode cX0_follows 66 = .ok (.istore_n 2, 1) := dk_61 (dk_at dksX0_follows_2 20 rfl rfl)
theorem dX0_follows_67 : decode cX0_follows 67 = .ok (.goto 26, 3) := dk_167 0 26 (dk_at dksX0_follows_2 21 rfl rfl)
theorem dX0_follows_70 : decode cX0_follows 70 = .ok (.aload_n 0, 1) := dk_42 (dk_at dksX0_follows_3 0 rfl rfl)
theorem dX0_follows_71 : decode cX0_follows 71 = .ok (.getfield 58, 3) := dk_180 0 58 (dk_at dksX0_follows_3 1 rfl rfl)
theorem dX0_follows_74 : decode cX0_follows 74 = .ok (.aload_n 0, 1) := dk_42 (dk_at dksX0_follows_3 4 rfl rfl)
theorem dX0_follows_75 : decode cX0_follows 75 = .ok (.getfield 81, 3) := dk_180 0 81 (dk_at dksX0_follows_3 5 rfl rfl)
theorem dX0_follows_78 : decode cX0_follows 78 = .ok (.iload_n 3, 1) := dk_29 (dk_at dksX0_follows_3 8 rfl rfl)
theorem dX0_follows_79 : decode cX0_follows 79 = .ok (.iaload, 1) := dk_46 (dk_at dksX0_follows_3 9 rfl rfl)
theorem dX0_follows_80 : decode cX0_follows 80 = .ok (.ineg, 1) := dk_116 (dk_at dksX0_follows_3 10 rfl rfl)
theorem dX0_follows_81 : decode cX0_follows 81 = .ok (.sipush (-1005), 3) := dk_17 252 19 (dk_at dksX0_follows_3 11 rfl rfl)
theorem dX0_follows_84 : decode cX0_follows 84 = .ok (.invokevirtual 493, 3) := dk_182 1 237 (dk_at dksX0_follows_3 14 rfl rfl)
theorem dX0_follows_87 : decode cX0_follows 87 = .ok (.iinc 3 1, 3) := dk_132 3 1 (dk_at dksX0_follows_3 17 rfl rfl)
theorem dX0_follows_90 : decode cX0_follows 90 = .ok (.goto (-53), 3) := dk_167 255 203 (dk_at dksX0_follows_3 20 rfl rfl)
theorem dX0_follows_93 : decode cX0_follows 93 = .ok (.iload_n 2, 1) := dk_28 (dk_at dksX0_follows_3 23 rfl rfl)
theorem dX0_follows_94 : decode cX0_follows 94 = .ok (.ifCond .ne 16, 3) := dk_154 0 16 (dk_at dksX0_follows_4 0 rfl rfl)
theorem dX0_follows_97 : decode cX0_follows 97 = .ok (.aload_n 0, 1) := dk_42 (dk_at dksX0_follows_4 3 rfl rfl)
theorem dX0_follows_98 : decode cX0_follows 98 = .ok (.getfield 58, 3) := dk_180 0 58 (dk_at dksX0_follows_4 4 rfl rfl)
theorem dX0_follows_101 : decode cX0_follows 101 = .ok (.invokevirtual 496, 3) := dk_182 1 240 (dk_at dksX0_follows_4 7 rfl rfl)
theorem dX0_follows_104 : decode cX0_follows 104 = .ok (.sipush (-1005), 3) := dk_17 252 19 (dk_at dksX0_follows_4 10 rfl rfl)
theorem dX0_follows_107 : decode cX0_follows 107 = .ok (.if_icmp .eq 7, 3) := dk_159 0 7 (dk_at dksX0_follows_4 13 rfl rfl)
theorem dX0_follows_110 : decode cX0_follows 110 = .ok (.iconst 1, 1) := dk_4 (dk_at dksX0_follows_4 16 rfl rfl)
theorem dX0_follows_111 : decode cX0_follows 111 = .ok (.goto 4, 3) := dk_167 0 4 (dk_at dksX0_follows_4 17 rfl rfl)
theorem dX0_follows_114 : decode cX0_follows 114 = .ok (.iconst 0, 1) := dk_3 (dk_at dksX0_follows_4 20 rfl rfl)
theorem dX0_follows_115 : decode cX0_follows 115 = .ok (.istore_n 3, 1) := dk_62 (dk_at dksX0_follows_4 21 rfl rfl)
theorem dX0_follows_116 : decode cX0_follows 116 = .ok (.aload_n 0, 1) := dk_42 (dk_at dksX0_follows_4 22 rfl rfl)
theorem dX0_follows_117 : decode cX0_follows 117 = .ok (.getfield 58, 3) := dk_180 0 58 (dk_at dksX0_follows_5 0 rfl rfl)
theorem dX0_follows_120 : decode cX0_follows 120 = .ok (.iconst 0, 1) := dk_3 (dk_at dksX0_follows_5 3 rfl rfl)
theorem dX0_follows_121 : decode cX0_follows 121 = .ok (.invokevirtual 499, 3) := dk_182 1 243 (dk_at dksX0_follows_5 4 rfl rfl)
theorem dX0_follows_124 : decode cX0_follows 124 = .ok (.iload_n 3, 1) := dk_29 (dk_at dksX0_follows_5 7 rfl rfl)
theorem dX0_follows_125 : decode cX0_follows 125 = .ok (.ireturn, 1) := dk_172 (dk_at dksX0_follows_5 8 rfl rfl)
theorem dX0_follows_126 : decode cX0_follows 126 = .ok (.astore 4, 2) := dk_58 4 (dk_at dksX0_follows_5 9 rfl rfl)
theorem dX0_follows_128 : decode cX0_follows 128 = .ok (.aload_n 0, 1) := dk_42 (dk_at dksX0_follows_5 11 rfl rfl)
theorem dX0_follows_129 : decode cX0_follows 129 = .ok (.getfield 58, 3) := dk_180 0 58 (dk_at dksX0_follows_5 12 rfl rfl)
theorem dX0_follows_132 : decode cX0_follows 132 = .ok (.iconst 0, 1) := dk_3 (dk_at dksX0_follows_5 15 rfl rfl)
theorem dX0_follows_133 : decode cX0_follows 133 = .ok (.invokevirtual 499, 3) := dk_182 1 243 (dk_at dksX0_follows_5 16 rfl rfl)
theorem dX0_follows_136 : decode cX0_follows 136 = .ok (.aload 4, 2) := dk_25 4 (dk_at dksX0_follows_5 19 rfl rfl)
theorem dX0_follows_138 : decode cX0_follows 138 = .ok (.athrow, 1) := dk_191 (dk_at dksX0_follows_5 21 rfl rfl)
abbrev cX0_isLastGood : ByteArray := prog_1_method_77_code
def yX0_isLastGood : MethodName := ⟨RX0, "isLastGood", "()Z"⟩
def dkwX0_isLastGood_4 : List UInt8 := [167, 255, 219, 29, 60, 132, 2, 1, 167, 255, 189, 27, 172]
abbrev dktX0_isLastGood_4 : List UInt8 := dkwX0_isLastGood_4 ++ []
def dkwX0_isLastGood_3 : List UInt8 := [21, 4, 46, 42, 180, 0, 81, 28, 46, 116, 160, 0, 7, 4, 167, 0, 4, 3, 128, 62, 132, 4, 1]
abbrev dktX0_isLastGood_3 : List UInt8 := dkwX0_isLastGood_3 ++ dktX0_isLastGood_4
def dkwX0_isLastGood_2 : List UInt8 := [46, 162, 0, 56, 3, 62, 3, 54, 4, 21, 4, 42, 180, 1, 68, 162, 0, 34, 29, 42, 180, 0, 68]
abbrev dktX0_isLastGood_2 : List UInt8 := dkwX0_isLastGood_2 ++ dktX0_isLastGood_3
def dkwX0_isLastGood_1 : List UInt8 := [180, 1, 224, 4, 100, 46, 167, 0, 4, 3, 61, 27, 153, 0, 69, 28, 42, 180, 0, 84, 42, 180, 1, 224]
abbrev dktX0_isLastGood_1 : List UInt8 := dkwX0_isLastGood_1 ++ dktX0_isLastGood_2
def dkwX0_isLastGood_0 : List UInt8 := [42, 180, 1, 224, 158, 0, 7, 4, 167, 0, 4, 3, 60, 27, 153, 0, 17, 42, 180, 0, 84, 42]
abbrev dktX0_isLastGood_0 : List UInt8 := dkwX0_isLastGood_0 ++ dktX0_isLastGood_1
theorem dksX0_isLastGood_0 : cX0_isLastGood.data.toList.drop 0 = dktX0_isLastGood_0 := by decide +kernel
theorem dksX0_isLastGood_1 : cX0_isLastGood.data.toList.drop 22 = dktX0_isLastGood_1 := dk_seg dksX0_isLastGood_0 22 rfl rfl
theorem dksX0_isLastGood_2 : cX0_isLastGood.data.toList.drop 46 = dktX0_isLastGood_2 := dk_seg dksX0_isLastGood_1 24 rfl rfl
theorem dksX0_isLastGood_3 : cX0_isLastGood.data.toList.drop 69 = dktX0_isLastGood_3 := dk_seg dksX0_isLastGood_2 23 rfl rfl
theorem dksX0_isLastGood_4 : cX0_isLastGood.data.toList.drop 92 = dktX0_isLastGood_4 := dk_seg dksX0_isLastGood_3 23 rfl rfl
theorem dX0_isLastGood_0 : decode cX0_isLastGood 0 = .ok (.aload_n 0, 1) := dk_42 (dk_at dksX0_isLastGood_0 0 rfl rfl)
theorem dX0_isLastGood_1 : decode cX0_isLastGood 1 = .ok (.getfield 480, 3) := dk_180 1 224 (dk_at dksX0_isLastGood_0 1 rfl rfl)
theorem dX0_isLastGood_4 : decode cX0_isLastGood 4 = .ok (.ifCond .le 7, 3) := dk_158 0 7 (dk_at dksX0_isLastGood_0 4 rfl rfl)
theorem dX0_isLastGood_7 : decode cX0_isLastGood 7 = .ok (.iconst 1, 1) := dk_4 (dk_at dksX0_isLastGood_0 7 rfl rfl)
theorem dX0_isLastGood_8 : decode cX0_isLastGood 8 = .ok (.goto 4, 3) := dk_167 0 4 (dk_at dksX0_isLastGood_0 8 rfl rfl)
theorem dX0_isLastGood_11 : decode cX0_isLastGood 11 = .ok (.iconst 0, 1) := dk_3 (dk_at dksX0_isLastGood_0 11 rfl rfl)
theorem dX0_isLastGood_12 : decode cX0_isLastGood 12 = .ok (.istore_n 1, 1) := dk_60 (dk_at dksX0_isLastGood_0 12 rfl rfl)
theorem dX0_isLastGood_13 : decode cX0_isLastGood 13 = .ok (.iload_n 1, 1) := dk_27 (dk_at dksX0_isLastGood_0 13 rfl rfl)
theorem dX0_isLastGood_14 : decode cX0_isLastGood 14 = .ok (.ifCond .eq 17, 3) := dk_153 0 17 (dk_at dksX0_isLastGood_0 14 rfl rfl)
theorem dX0_isLastGood_17 : decode cX0_isLastGood 17 = .ok (.aload_n 0, 1) := dk_42 (dk_at dksX0_isLastGood_0 17 rfl rfl)
theorem dX0_isLastGood_18 : decode cX0_isLastGood 18 = .ok (.getfield 84, 3) := dk_180 0 84 (dk_at dksX0_isLastGood_0 18 rfl rfl)
theorem dX0_isLastGood_21 : decode cX0_isLastGood 21 = .ok (.aload_n 0, 1) := dk_42 (dk_at dksX0_isLastGood_0 21 rfl rfl)
theorem dX0_isLastGood_22 : decode cX0_isLastGood 22 = .ok (.getfield 480, 3) := dk_180 1 224 (dk_at dksX0_isLastGood_1 0 rfl rfl)
theorem dX0_isLastGood_25 : decode cX0_isLastGood 25 = .ok (.iconst 1, 1) := dk_4 (dk_at dksX0_isLastGood_1 3 rfl rfl)
theorem dX0_isLastGood_26 : decode cX0_isLastGood 26 = .ok (.isub, 1) := dk_100 (dk_at dksX0_isLastGood_1 4 rfl rfl)
theorem dX0_isLastGood_27 : decode cX0_isLastGood 27 = .ok (.iaload, 1) := dk_46 (dk_at dksX0_isLastGood_1 5 rfl rfl)
theorem dX0_isLastGood_28 : decode cX0_isLastGood 28 = .ok (.goto 4, 3) := dk_167 0 4 (dk_at dksX0_isLastGood_1 6 rfl rfl)
theorem dX0_isLastGood_31 : decode cX0_isLastGood 31 = .ok (.iconst 0, 1) := dk_3 (dk_at dksX0_isLastGood_1 9 rfl rfl)
theorem dX0_isLastGood_32 : decode cX0_isLastGood 32 = .ok (.istore_n 2, 1) := dk_61 (dk_at dksX0_isLastGood_1 10 rfl rfl)
theorem dX0_isLastGood_33 : decode cX0_isLastGood 33 = .ok (.iload_n 1, 1) := dk_27 (dk_at dksX0_isLastGood_1 11 rfl rfl)
theorem dX0_isLastGood_34 : decode cX0_isLastGood 34 = .ok (.ifCond .eq 69, 3) := dk_153 0 69 (dk_at dksX0_isLastGood_1 12 rfl rfl)
theorem dX0_isLastGood_37 : decode cX0_isLastGood 37 = .ok (.iload_n 2, 1) := dk_28 (dk_at dksX0_isLastGood_1 15 rfl rfl)
theorem dX0_isLastGood_38 : decode cX0_isLastGood 38 = .ok (.aload_n 0, 1) := dk_42 (dk_at dksX0_isLastGood_1 16 rfl rfl)
theorem dX0_isLastGood_39 : decode cX0_isLastGood 39 = .ok (.getfield 84, 3) := dk_180 0 84 (dk_at dksX0_isLastGood_1 17 rfl rfl)
theorem dX0_isLastGood_42 : decode cX0_isLastGood 42 = .ok (.aload_n 0, 1) := dk_42 (dk_at dksX0_isLastGood_1 20 rfl rfl)
theorem dX0_isLastGood_43 : decode cX0_isLastGood 43 = .ok (.getfield 480, 3) := dk_180 1 224 (dk_at dksX0_isLastGood_1 21 rfl rfl)
theorem dX0_isLastGood_46 : decode cX0_isLastGood 46 = .ok (.iaload, 1) := dk_46 (dk_at dksX0_isLastGood_2 0 rfl rfl)
theorem dX0_isLastGood_47 : decode cX0_isLastGood 47 = .ok (.if_icmp .ge 56, 3) := dk_162 0 56 (dk_at dksX0_isLastGood_2 1 rfl rfl)
theorem dX0_isLastGood_50 : decode cX0_isLastGood 50 = .ok (.iconst 0, 1) := dk_3 (dk_at dksX0_isLastGood_2 4 rfl rfl)
theorem dX0_isLastGood_51 : decode cX0_isLastGood 51 = .ok (.istore_n 3, 1) := dk_62 (dk_at dksX0_isLastGood_2 5 rfl rfl)
theorem dX0_isLastGood_52 : decode cX0_isLastGood 52 = .ok (.iconst 0, 1) := dk_3 (dk_at dksX0_isLastGood_2 6 rfl rfl)
theorem dX0_isLastGood_53 : decode cX0_isLastGood 53 = .ok (.istore 4, 2) := dk_54 4 (dk_at dksX0_isLastGood_2 7 rfl rfl)
theorem dX0_isLastGood_55 : decode cX0_isLastGood 55 = .ok (.iload 4, 2) := dk_21 4 (dk_at dksX0_isLastGood_2 9 rfl rfl)
theorem dX0_isLastGood_57 : decode cX0_isLastGood 57 = .ok (.aload_n 0, 1) := dk_42 (dk_at dksX0_isLastGood_2 11 rfl rfl)
theorem dX0_isLastGood_58 : decode cX0_isLastGood 58 = .ok (.getfield 324, 3) := dk_180 1 68 (dk_at dksX0_isLastGood_2 12 rfl rfl)
theorem dX0_isLastGood_61 : decode cX0_isLastGood 61 = .ok (.if_icmp .ge 34, 3) := dk_162 0 34 (dk_at dksX0_isLastGood_2 15 rfl rfl)
theorem dX0_isLastGood_64 : decode cX0_isLastGood 64 = .ok (.iload_n 3, 1) := dk_29 (dk_at dksX0_isLastGood_2 18 rfl rfl)
theorem dX0_isLastGood_65 : decode cX0_isLastGood 65 = .ok (.aload_n 0, 1) := dk_42 (dk_at dksX0_isLastGood_2 19 rfl rfl)
theorem dX0_isLastGood_66 : decode cX0_isLastGood 66 = .ok (.getfield 68, 3) := dk_180 0 68 (dk_at dksX0_isLastGood_2 20 rfl rfl)
theorem dX0_isLastGood_69 : decode cX0_isLastGood 69 = .ok (.iload 4, 2) := dk_21 4 (dk_at dksX0_isLastGood_3 0 rfl rfl)
theorem dX0_isLastGood_71 : decode cX0_isLastGood 71 = .ok (.iaload, 1) := dk_46 (dk_at dksX0_isLastGood_3 2 rfl rfl)
theorem dX0_isLastGood_72 : decode cX0_isLastGood 72 = .ok (.aload_n 0, 1) := dk_42 (dk_at dksX0_isLastGood_3 3 rfl rfl)
theorem dX0_isLastGood_73 : decode cX0_isLastGood 73 = .ok (.getfield 81, 3) := dk_180 0 81 (dk_at dksX0_isLastGood_3 4 rfl rfl)
theorem dX0_isLastGood_76 : decode cX0_isLastGood 76 = .ok (.iload_n 2, 1) := dk_28 (dk_at dksX0_isLastGood_3 7 rfl rfl)
theorem dX0_isLastGood_77 : decode cX0_isLastGood 77 = .ok (.iaload, 1) := dk_46 (dk_at dksX0_isLastGood_3 8 rfl rfl)
theorem dX0_isLastGood_78 : decode cX0_isLastGood 78 = .ok (.ineg, 1) := dk_116 (dk_at dksX0_isLastGood_3 9 rfl rfl)
theorem dX0_isLastGood_79 : decode cX0_isLastGood 79 = .ok (.if_icmp .ne 7, 3) := dk_160 0 7 (dk_at dksX0_isLastGood_3 10 rfl rfl)
theorem dX0_isLastGood_82 : decode cX0_isLastGood 82 = .ok (.iconst 1, 1) := dk_4 (dk_at dksX0_isLastGood_3 13 rfl rfl)
theorem dX0_isLastGood_83 : decode cX0_isLastGood 83 = .ok (.goto 4, 3) := dk_167 0 4 (dk_at dksX0_isLastGood_3 14 rfl rfl)
theorem dX0_isLastGood_86 : decode cX0_isLastGood 86 = .ok (.iconst 0, 1) := dk_3 (dk_at dksX0_isLastGood_3 17 rfl rfl)
theorem dX0_isLastGood_87 : decode cX0_isLastGood 87 = .ok (.ior, 1) := dk_128 (dk_at dksX0_isLastGood_3 18 rfl rfl)
theorem dX0_isLastGood_88 : decode cX0_isLastGood 88 = .ok (.istore_n 3, 1) := dk_62 (dk_at dksX0_isLastGood_3 19 rfl rfl)
theorem dX0_isLastGood_89 : decode cX0_isLastGood 89 = .ok (.iinc 4 1, 3) := dk_132 4 1 (dk_at dksX0_isLastGood_3 20 rfl rfl)
theorem dX0_isLastGood_92 : decode cX0_isLastGood 92 = .ok (.goto (-37), 3) := dk_167 255 219 (dk_at dksX0_isLastGood_4 0 rfl rfl)
theorem dX0_isLastGood_95 : decode cX0_isLastGood 95 = .ok (.iload_n 3, 1) := dk_29 (dk_at dksX0_isLastGood_4 3 rfl rfl)
theorem dX0_isLastGood_96 : decode cX0_isLastGood 96 = .ok (.istore_n 1, 1) := dk_60 (dk_at dksX0_isLastGood_4 4 rfl rfl)
theorem dX0_isLastGood_97 : decode cX0_isLastGood 97 = .ok (.iinc 2 1, 3) := dk_132 2 1 (dk_at dksX0_isLastGood_4 5 rfl rfl)
theorem dX0_isLastGood_100 : decode cX0_isLastGood 100 = .ok (.goto (-67), 3) := dk_167 255 189 (dk_at dksX0_isLastGood_4 8 rfl rfl)
theorem dX0_isLastGood_103 : decode cX0_isLastGood 103 = .ok (.iload_n 1, 1) := dk_27 (dk_at dksX0_isLastGood_4 11 rfl rfl)
theorem dX0_isLastGood_104 : decode cX0_isLastGood 104 = .ok (.ireturn, 1) := dk_172 (dk_at dksX0_isLastGood_4 12 rfl rfl)
abbrev cX0_refusedAt : ByteArray := prog_1_method_79_code
def yX0_refusedAt : MethodName := ⟨RX0, "refusedAt", "()I"⟩
theorem dX0_refusedAt_0 : decode cX0_refusedAt 0 = .ok (.aload_n 0, 1) := by decide +kernel
theorem dX0_refusedAt_1 : decode cX0_refusedAt 1 = .ok (.getfield 87, 3) := by decide +kernel
theorem dX0_refusedAt_4 : decode cX0_refusedAt 4 = .ok (.ireturn, 1) := by decide +kernel
abbrev cX0_counted : ByteArray := prog_1_method_81_code
def yX0_counted : MethodName := ⟨RX0, "counted", "(IZ)I"⟩
def dkwX0_counted_3 : List UInt8 := [167, 0, 4, 3, 172]
abbrev dktX0_counted_3 : List UInt8 := dkwX0_counted_3 ++ []
def dkwX0_counted_2 : List UInt8 := [17, 252, 21, 182, 0, 124, 172, 42, 180, 0, 11, 27, 4, 100, 50, 28, 181, 1, 255, 29, 153, 0, 7, 4]
abbrev dktX0_counted_2 : List UInt8 := dkwX0_counted_2 ++ dktX0_counted_3
def dkwX0_counted_1 : List UInt8 := [180, 1, 255, 62, 28, 153, 0, 24, 29, 154, 0, 20, 42, 182, 2, 2, 16, 20, 160, 0, 11, 42]
abbrev dktX0_counted_1 : List UInt8 := dkwX0_counted_1 ++ dktX0_counted_2
def dkwX0_counted_0 : List UInt8 := [42, 27, 182, 1, 71, 154, 0, 11, 42, 17, 252, 23, 182, 0, 124, 172, 42, 180, 0, 11, 27, 4, 100, 50]
abbrev dktX0_counted_0 : List UInt8 := dkwX0_counted_0 ++ dktX0_counted_1
theorem dksX0_counted_0 : cX0_counted.data.toList.drop 0 = dktX0_counted_0 := by decide +kernel
theorem dksX0_counted_1 : cX0_counted.data.toList.drop 24 = dktX0_counted_1 := dk_seg dksX0_counted_0 24 rfl rfl
theorem dksX0_counted_2 : cX0_counted.data.toList.drop 46 = dktX0_counted_2 := dk_seg dksX0_counted_1 22 rfl rfl
theorem dksX0_counted_3 : cX0_counted.data.toList.drop 70 = dktX0_counted_3 := dk_seg dksX0_counted_2 24 rfl rfl
theorem dX0_counted_0 : decode cX0_counted 0 = .ok (.aload_n 0, 1) := dk_42 (dk_at dksX0_counted_0 0 rfl rfl)
theorem dX0_counted_1 : decode cX0_counted 1 = .ok (.iload_n 1, 1) := dk_27 (dk_at dksX0_counted_0 1 rfl rfl)
theorem dX0_counted_2 : decode cX0_counted 2 = .ok (.invokevirtual 327, 3) := dk_182 1 71 (dk_at dksX0_counted_0 2 rfl rfl)
theorem dX0_counted_5 : decode cX0_counted 5 = .ok (.ifCond .ne 11, 3) := dk_154 0 11 (dk_at dksX0_counted_0 5 rfl rfl)
theorem dX0_counted_8 : decode cX0_counted 8 = .ok (.aload_n 0, 1) := dk_42 (dk_at dksX0_counted_0 8 rfl rfl)
theorem dX0_counted_9 : decode cX0_counted 9 = .ok (.sipush (-1001), 3) := dk_17 252 23 (dk_at dksX0_counted_0 9 rfl rfl)
theorem dX0_counted_12 : decode cX0_counted 12 = .ok (.invokevirtual 124, 3) := dk_182 0 124 (dk_at dksX0_counted_0 12 rfl rfl)
theorem dX0_counted_15 : decode cX0_counted 15 = .ok (.ireturn, 1) := dk_172 (dk_at dksX0_counted_0 15 rfl rfl)
theorem dX0_counted_16 : decode cX0_counted 16 = .ok (.aload_n 0, 1) := dk_42 (dk_at dksX0_counted_0 16 rfl rfl)
theorem dX0_counted_17 : decode cX0_counted 17 = .ok (.getfield 11, 3) := dk_180 0 11 (dk_at dksX0_counted_0 17 rfl rfl)
theorem dX0_counted_20 : decode cX0_counted 20 = .ok (.iload_n 1, 1) := dk_27 (dk_at dksX0_counted_0 20 rfl rfl)
theorem dX0_counted_21 : decode cX0_counted 21 = .ok (.iconst 1, 1) := dk_4 (dk_at dksX0_counted_0 21 rfl rfl)
theorem dX0_counted_22 : decode cX0_counted 22 = .ok (.isub, 1) := dk_100 (dk_at dksX0_counted_0 22 rfl rfl)
theorem dX0_counted_23 : decode cX0_counted 23 = .ok (.aaload, 1) := dk_50 (dk_at dksX0_counted_0 23 rfl rfl)
theorem dX0_counted_24 : decode cX0_counted 24 = .ok (.getfield 511, 3) := dk_180 1 255 (dk_at dksX0_counted_1 0 rfl rfl)
theorem dX0_counted_27 : decode cX0_counted 27 = .ok (.istore_n 3, 1) := dk_62 (dk_at dksX0_counted_1 3 rfl rfl)
theorem dX0_counted_28 : decode cX0_counted 28 = .ok (.iload_n 2, 1) := dk_28 (dk_at dksX0_counted_1 4 rfl rfl)
theorem dX0_counted_29 : decode cX0_counted 29 = .ok (.ifCond .eq 24, 3) := dk_153 0 24 (dk_at dksX0_counted_1 5 rfl rfl)
theorem dX0_counted_32 : decode cX0_counted 32 = .ok (.iload_n 3, 1) := dk_29 (dk_at dksX0_counted_1 8 rfl rfl)
theorem dX0_counted_33 : decode cX0_counted 33 = .ok (.ifCond .ne 20, 3) := dk_154 0 20 (dk_at dksX0_counted_1 9 rfl rfl)
theorem dX0_counted_36 : decode cX0_counted 36 = .ok (.aload_n 0, 1) := dk_42 (dk_at dksX0_counted_1 12 rfl rfl)
theorem dX0_counted_37 : decode cX0_counted 37 = .ok (.invokevirtual 514, 3) := dk_182 2 2 (dk_at dksX0_counted_1 13 rfl rfl)
theorem dX0_counted_40 : decode cX0_counted 40 = .ok (.bipush 20, 2) := dk_16 20 (dk_at dksX0_counted_1 16 rfl rfl)
theorem dX0_counted_42 : decode cX0_counted 42 = .ok (.if_icmp .ne 11, 3) := dk_160 0 11 (dk_at dksX0_counted_1 18 rfl rfl)
theorem dX0_counted_45 : decode cX0_counted 45 = .ok (.aload_n 0, 1) := dk_42 (dk_at dksX0_counted_1 21 rfl rfl)
theorem dX0_counted_46 : decode cX0_counted 46 = .ok (.sipush (-1003), 3) := dk_17 252 21 (dk_at dksX0_counted_2 0 rfl rfl)
theorem dX0_counted_49 : decode cX0_counted 49 = .ok (.invokevirtual 124, 3) := dk_182 0 124 (dk_at dksX0_counted_2 3 rfl rfl)
theorem dX0_counted_52 : decode cX0_counted 52 = .ok (.ireturn, 1) := dk_172 (dk_at dksX0_counted_2 6 rfl rfl)
theorem dX0_counted_53 : decode cX0_counted 53 = .ok (.aload_n 0, 1) := dk_42 (dk_at dksX0_counted_2 7 rfl rfl)
theorem dX0_counted_54 : decode cX0_counted 54 = .ok (.getfield 11, 3) := dk_180 0 11 (dk_at dksX0_counted_2 8 rfl rfl)
theorem dX0_counted_57 : decode cX0_counted 57 = .ok (.iload_n 1, 1) := dk_27 (dk_at dksX0_counted_2 11 rfl rfl)
theorem dX0_counted_58 : decode cX0_counted 58 = .ok (.iconst 1, 1) := dk_4 (dk_at dksX0_counted_2 12 rfl rfl)
theorem dX0_counted_59 : decode cX0_counted 59 = .ok (.isub, 1) := dk_100 (dk_at dksX0_counted_2 13 rfl rfl)
theorem dX0_counted_60 : decode cX0_counted 60 = .ok (.aaload, 1) := dk_50 (dk_at dksX0_counted_2 14 rfl rfl)
theorem dX0_counted_61 : decode cX0_counted 61 = .ok (.iload_n 2, 1) := dk_28 (dk_at dksX0_counted_2 15 rfl rfl)
theorem dX0_counted_62 : decode cX0_counted 62 = .ok (.putfield 511, 3) := dk_181 1 255 (dk_at dksX0_counted_2 16 rfl rfl)
theorem dX0_counted_65 : decode cX0_counted 65 = .ok (.iload_n 3, 1) := dk_29 (dk_at dksX0_counted_2 19 rfl rfl)
theorem dX0_counted_66 : decode cX0_counted 66 = .ok (.ifCond .eq 7, 3) := dk_153 0 7 (dk_at dksX0_counted_2 20 rfl rfl)
theorem dX0_counted_69 : decode cX0_counted 69 = .ok (.iconst 1, 1) := dk_4 (dk_at dksX0_counted_2 23 rfl rfl)
theorem dX0_counted_70 : decode cX0_counted 70 = .ok (.goto 4, 3) := dk_167 0 4 (dk_at dksX0_counted_3 0 rfl rfl)
theorem dX0_counted_73 : decode cX0_counted 73 = .ok (.iconst 0, 1) := dk_3 (dk_at dksX0_counted_3 3 rfl rfl)
theorem dX0_counted_74 : decode cX0_counted 74 = .ok (.ireturn, 1) := dk_172 (dk_at dksX0_counted_3 4 rfl rfl)
abbrev cX0_countedNames : ByteArray := prog_1_method_80_code
def yX0_countedNames : MethodName := ⟨RX0, "countedNames", "()I"⟩
def dkwX0_countedNames_1 : List UInt8 := [153, 0, 7, 4, 167, 0, 4, 3, 96, 60, 132, 2, 1, 167, 255, 225, 27, 172]
abbrev dktX0_countedNames_1 : List UInt8 := dkwX0_countedNames_1 ++ []
def dkwX0_countedNames_0 : List UInt8 := [3, 60, 3, 61, 28, 42, 180, 0, 100, 162, 0, 29, 27, 42, 180, 0, 11, 28, 50, 180, 1, 255]
abbrev dktX0_countedNames_0 : List UInt8 := dkwX0_countedNames_0 ++ dktX0_countedNames_1
theorem dksX0_countedNames_0 : cX0_countedNames.data.toList.drop 0 = dktX0_countedNames_0 := by decide +kernel
theorem dksX0_countedNames_1 : cX0_countedNames.data.toList.drop 22 = dktX0_countedNames_1 := dk_seg dksX0_countedNames_0 22 rfl rfl
theorem dX0_countedNames_0 : decode cX0_countedNames 0 = .ok (.iconst 0, 1) := dk_3 (dk_at dksX0_countedNames_0 0 rfl rfl)
theorem dX0_countedNames_1 : decode cX0_countedNames 1 = .ok (.istore_n 1, 1) := dk_60 (dk_at dksX0_countedNames_0 1 rfl rfl)
theorem dX0_countedNames_2 : decode cX0_countedNames 2 = .ok (.iconst 0, 1) := dk_3 (dk_at dksX0_countedNames_0 2 rfl rfl)
theorem dX0_countedNames_3 : decode cX0_countedNames 3 = .ok (.istore_n 2, 1) := dk_61 (dk_at dksX0_countedNames_0 3 rfl rfl)
theorem dX0_countedNames_4 : decode cX0_countedNames 4 = .ok (.iload_n 2, 1) := dk_28 (dk_at dksX0_countedNames_0 4 rfl rfl)
theorem dX0_countedNames_5 : decode cX0_countedNames 5 = .ok (.aload_n 0, 1) := dk_42 (dk_at dksX0_countedNames_0 5 rfl rfl)
theorem dX0_countedNames_6 : decode cX0_countedNames 6 = .ok (.getfield 100, 3) := dk_180 0 100 (dk_at dksX0_countedNames_0 6 rfl rfl)
theorem dX0_countedNames_9 : decode cX0_countedNames 9 = .ok (.if_icmp .ge 29, 3) := dk_162 0 29 (dk_at dksX0_countedNames_0 9 rfl rfl)
theorem dX0_countedNames_12 : decode cX0_countedNames 12 = .ok (.iload_n 1, 1) := dk_27 (dk_at dksX0_countedNames_0 12 rfl rfl)
theorem dX0_countedNames_13 : decode cX0_countedNames 13 = .ok (.aload_n 0, 1) := dk_42 (dk_at dksX0_countedNames_0 13 rfl rfl)
theorem dX0_countedNames_14 : decode cX0_countedNames 14 = .ok (.getfield 11, 3) := dk_180 0 11 (dk_at dksX0_countedNames_0 14 rfl rfl)
theorem dX0_countedNames_17 : decode cX0_countedNames 17 = .ok (.iload_n 2, 1) := dk_28 (dk_at dksX0_countedNames_0 17 rfl rfl)
theorem dX0_countedNames_18 : decode cX0_countedNames 18 = .ok (.aaload, 1) := dk_50 (dk_at dksX0_countedNames_0 18 rfl rfl)
theorem dX0_countedNames_19 : decode cX0_countedNames 19 = .ok (.getfield 511, 3) := dk_180 1 255 (dk_at dksX0_countedNames_0 19 rfl rfl)
theorem dX0_countedNames_22 : decode cX0_countedNames 22 = .ok (.ifCond .eq 7, 3) := dk_153 0 7 (dk_at dksX0_countedNames_1 0 rfl rfl)
theorem dX0_countedNames_25 : decode cX0_countedNames 25 = .ok (.iconst 1, 1) := dk_4 (dk_at dksX0_countedNames_1 3 rfl rfl)
theorem dX0_countedNames_26 : decode cX0_countedNames 26 = .ok (.goto 4, 3) := dk_167 0 4 (dk_at dksX0_countedNames_1 4 rfl rfl)
theorem dX0_countedNames_29 : decode cX0_countedNames 29 = .ok (.iconst 0, 1) := dk_3 (dk_at dksX0_countedNames_1 7 rfl rfl)
theorem dX0_countedNames_30 : decode cX0_countedNames 30 = .ok (.iadd, 1) := dk_96 (dk_at dksX0_countedNames_1 8 rfl rfl)
theorem dX0_countedNames_31 : decode cX0_countedNames 31 = .ok (.istore_n 1, 1) := dk_60 (dk_at dksX0_countedNames_1 9 rfl rfl)
theorem dX0_countedNames_32 : decode cX0_countedNames 32 = .ok (.iinc 2 1, 3) := dk_132 2 1 (dk_at dksX0_countedNames_1 10 rfl rfl)
theorem dX0_countedNames_35 : decode cX0_countedNames 35 = .ok (.goto (-31), 3) := dk_167 255 225 (dk_at dksX0_countedNames_1 13 rfl rfl)
theorem dX0_countedNames_38 : decode cX0_countedNames 38 = .ok (.iload_n 1, 1) := dk_27 (dk_at dksX0_countedNames_1 16 rfl rfl)
theorem dX0_countedNames_39 : decode cX0_countedNames 39 = .ok (.ireturn, 1) := dk_172 (dk_at dksX0_countedNames_1 17 rfl rfl)
abbrev cX0_next : ByteArray := prog_1_method_83_code
def yX0_next : MethodName := ⟨RX0, "next", "(I)I"⟩
def dkwX0_next_6 : List UInt8 := [180, 1, 172, 4, 96, 181, 1, 172, 28, 172]
abbrev dktX0_next_6 : List UInt8 := dkwX0_next_6 ++ []
def dkwX0_next_5 : List UInt8 := [42, 42, 180, 0, 54, 42, 180, 0, 71, 42, 180, 0, 74, 42, 180, 1, 172, 46, 182, 2, 5, 79, 42, 89]
abbrev dktX0_next_5 : List UInt8 := dkwX0_next_5 ++ dktX0_next_6
def dkwX0_next_4 : List UInt8 := [181, 1, 118, 42, 27, 182, 1, 123, 61, 28, 4, 160, 0, 45, 42, 180, 0, 74, 42, 180, 1, 172, 4, 96]
abbrev dktX0_next_4 : List UInt8 := dkwX0_next_4 ++ dktX0_next_5
def dkwX0_next_3 : List UInt8 := [180, 0, 74, 28, 4, 96, 46, 182, 1, 249, 132, 2, 1, 167, 255, 215, 42, 3, 181, 1, 126, 42, 4]
abbrev dktX0_next_3 : List UInt8 := dkwX0_next_3 ++ dktX0_next_4
def dkwX0_next_2 : List UInt8 := [162, 0, 39, 42, 180, 0, 54, 17, 1, 244, 28, 96, 42, 180, 0, 71, 42, 180, 0, 74, 28, 46, 42]
abbrev dktX0_next_2 : List UInt8 := dkwX0_next_2 ++ dktX0_next_3
def dkwX0_next_1 : List UInt8 := [16, 64, 160, 0, 11, 42, 17, 252, 21, 182, 0, 124, 172, 42, 182, 1, 115, 3, 61, 28, 42, 180, 1, 172]
abbrev dktX0_next_1 : List UInt8 := dkwX0_next_1 ++ dktX0_next_2
def dkwX0_next_0 : List UInt8 := [27, 133, 10, 20, 1, 113, 184, 0, 109, 154, 0, 11, 42, 17, 252, 23, 182, 0, 124, 172, 42, 180, 1, 172]
abbrev dktX0_next_0 : List UInt8 := dkwX0_next_0 ++ dktX0_next_1
theorem dksX0_next_0 : cX0_next.data.toList.drop 0 = dktX0_next_0 := by decide +kernel
theorem dksX0_next_1 : cX0_next.data.toList.drop 24 = dktX0_next_1 := dk_seg dksX0_next_0 24 rfl rfl
theorem dksX0_next_2 : cX0_next.data.toList.drop 48 = dktX0_next_2 := dk_seg dksX0_next_1 24 rfl rfl
theorem dksX0_next_3 : cX0_next.data.toList.drop 71 = dktX0_next_3 := dk_seg dksX0_next_2 23 rfl rfl
theorem dksX0_next_4 : cX0_next.data.toList.drop 94 = dktX0_next_4 := dk_seg dksX0_next_3 23 rfl rfl
theorem dksX0_next_5 : cX0_next.data.toList.drop 118 = dktX0_next_5 := dk_seg dksX0_next_4 24 rfl rfl
theorem dksX0_next_6 : cX0_next.data.toList.drop 142 = dktX0_next_6 := dk_seg dksX0_next_5 24 rfl rfl
theorem dX0_next_0 : decode cX0_next 0 = .ok (.iload_n 1, 1) := dk_27 (dk_at dksX0_next_0 0 rfl rfl)
theorem dX0_next_1 : decode cX0_next 1 = .ok (.i2l, 1) := dk_133 (dk_at dksX0_next_0 1 rfl rfl)
theorem dX0_next_2 : decode cX0_next 2 = .ok (.lconst 1, 1) := dk_10 (dk_at dksX0_next_0 2 rfl rfl)
theorem dX0_next_3 : decode cX0_next 3 = .ok (.ldc2_w 369, 3) := dk_20 1 113 (dk_at dksX0_next_0 3 rfl rfl)
theorem dX0_next_6 : decode cX0_next 6 = .ok (.invokestatic 109, 3) := dk_184 0 109 (dk_at dksX0_next_0 6 rfl rfl)
theorem dX0_next_9 : decode cX0_next 9 = .ok (.ifCond .ne 11, 3) := dk_154 0 11 (dk_at dksX0_next_0 9 rfl rfl)
theorem dX0_next_12 : decode cX0_next 12 = .ok (.aload_n 0, 1) := dk_42 (dk_at dksX0_next_0 12 rfl rfl)
theorem dX0_next_13 : decode cX0_next 13 = .ok (.sipush (-1001), 3) := dk_17 252 23 (dk_at dksX0_next_0 13 rfl rfl)
theorem dX0_next_16 : decode cX0_next 16 = .ok (.invokevirtual 124, 3) := dk_182 0 124 (dk_at dksX0_next_0 16 rfl rfl)
theorem dX0_next_19 : decode cX0_next 19 = .ok (.ireturn, 1) := dk_172 (dk_at dksX0_next_0 19 rfl rfl)
theorem dX0_next_20 : decode cX0_next 20 = .ok (.aload_n 0, 1) := dk_42 (dk_at dksX0_next_0 20 rfl rfl)
theorem dX0_next_21 : decode cX0_next 21 = .ok (.getfield 428, 3) := dk_180 1 172 (dk_at dksX0_next_0 21 rfl rfl)
theorem dX0_next_24 : decode cX0_next 24 = .ok (.bipush 64, 2) := dk_16 64 (dk_at dksX0_next_1 0 rfl rfl)
theorem dX0_next_26 : decode cX0_next 26 = .ok (.if_icmp .ne 11, 3) := dk_160 0 11 (dk_at dksX0_next_1 2 rfl rfl)
theorem dX0_next_29 : decode cX0_next 29 = .ok (.aload_n 0, 1) := dk_42 (dk_at dksX0_next_1 5 rfl rfl)
theorem dX0_next_30 : decode cX0_next 30 = .ok (.sipush (-1003), 3) := dk_17 252 21 (dk_at dksX0_next_1 6 rfl rfl)
theorem dX0_next_33 : decode cX0_next 33 = .ok (.invokevirtual 124, 3) := dk_182 0 124 (dk_at dksX0_next_1 9 rfl rfl)
theorem dX0_next_36 : decode cX0_next 36 = .ok (.ireturn, 1) := dk_172 (dk_at dksX0_next_1 12 rfl rfl)
theorem dX0_next_37 : decode cX0_next 37 = .ok (.aload_n 0, 1) := dk_42 (dk_at dksX0_next_1 13 rfl rfl)
theorem dX0_next_38 : decode cX0_next 38 = .ok (.invokevirtual 371, 3) := dk_182 1 115 (dk_at dksX0_next_1 14 rfl rfl)
theorem dX0_next_41 : decode cX0_next 41 = .ok (.iconst 0, 1) := dk_3 (dk_at dksX0_next_1 17 rfl rfl)
theorem dX0_next_42 : decode cX0_next 42 = .ok (.istore_n 2, 1) := dk_61 (dk_at dksX0_next_1 18 rfl rfl)
theorem dX0_next_43 : decode cX0_next 43 = .ok (.iload_n 2, 1) := dk_28 (dk_at dksX0_next_1 19 rfl rfl)
theorem dX0_next_44 : decode cX0_next 44 = .ok (.aload_n 0, 1) := dk_42 (dk_at dksX0_next_1 20 rfl rfl)
theorem dX0_next_45 : decode cX0_next 45 = .ok (.getfield 428, 3) := dk_180 1 172 (dk_at dksX0_next_1 21 rfl rfl)
theorem dX0_next_48 : decode cX0_next 48 = .ok (.if_icmp .ge 39, 3) := dk_162 0 39 (dk_at dksX0_next_2 0 rfl rfl)
theorem dX0_next_51 : decode cX0_next 51 = .ok (.aload_n 0, 1) := dk_42 (dk_at dksX0_next_2 3 rfl rfl)
theorem dX0_next_52 : decode cX0_next 52 = .ok (.getfield 54, 3) := dk_180 0 54 (dk_at dksX0_next_2 4 rfl rfl)
theorem dX0_next_55 : decode cX0_next 55 = .ok (.sipush 500, 3) := dk_17 1 244 (dk_at dksX0_next_2 7 rfl rfl)
theorem dX0_next_58 : decode cX0_next 58 = .ok (.iload_n 2, 1) := dk_28 (dk_at dksX0_next_2 10 rfl rfl)
theorem dX0_next_59 : decode cX0_next 59 = .ok (.iadd, 1) := dk_96 (dk_at dksX0_next_2 11 rfl rfl)
theorem dX0_next_60 : decode cX0_next 60 = .ok (.aload_n 0, 1) := dk_42 (dk_at dksX0_next_2 12 rfl rfl)
theorem dX0_next_61 : decode cX0_next 61 = .ok (.getfield 71, 3) := dk_180 0 71 (dk_at dksX0_next_2 13 rfl rfl)
theorem dX0_next_64 : decode cX0_next 64 = .ok (.aload_n 0, 1) := dk_42 (dk_at dksX0_next_2 16 rfl rfl)
theorem dX0_next_65 : decode cX0_next 65 = .ok (.getfield 74, 3) := dk_180 0 74 (dk_at dksX0_next_2 17 rfl rfl)
theorem dX0_next_68 : decode cX0_next 68 = .ok (.iload_n 2, 1) := dk_28 (dk_at dksX0_next_2 20 rfl rfl)
theorem dX0_next_69 : decode cX0_next 69 = .ok (.iaload, 1) := dk_46 (dk_at dksX0_next_2 21 rfl rfl)
theorem dX0_next_70 : decode cX0_next 70 = .ok (.aload_n 0, 1) := dk_42 (dk_at dksX0_next_2 22 rfl rfl)
theorem dX0_next_71 : decode cX0_next 71 = .ok (.getfield 74, 3) := dk_180 0 74 (dk_at dksX0_next_3 0 rfl rfl)
theorem dX0_next_74 : decode cX0_next 74 = .ok (.iload_n 2, 1) := dk_28 (dk_at dksX0_next_3 3 rfl rfl)
theorem dX0_next_75 : decode cX0_next 75 = .ok (.iconst 1, 1) := dk_4 (dk_at dksX0_next_3 4 rfl rfl)
theorem dX0_next_76 : decode cX0_next 76 = .ok (.iadd, 1) := dk_96 (dk_at dksX0_next_3 5 rfl rfl)
theorem dX0_next_77 : decode cX0_next 77 = .ok (.iaload, 1) := dk_46 (dk_at dksX0_next_3 6 rfl rfl)
theorem dX0_next_78 : decode cX0_next 78 = .ok (.invokevirtual 505, 3) := dk_182 1 249 (dk_at dksX0_next_3 7 rfl rfl)
theorem dX0_next_81 : decode cX0_next 81 = .ok (.iinc 2 1, 3) := dk_132 2 1 (dk_at dksX0_next_3 10 rfl rfl)
theorem dX0_next_84 : decode cX0_next 84 = .ok (.goto (-41), 3) := dk_167 255 215 (dk_at dksX0_next_3 13 rfl rfl)
theorem dX0_next_87 : decode cX0_next 87 = .ok (.aload_n 0, 1) := dk_42 (dk_at dksX0_next_3 16 rfl rfl)
theorem dX0_next_88 : decode cX0_next 88 = .ok (.iconst 0, 1) := dk_3 (dk_at dksX0_next_3 17 rfl rfl)
theorem dX0_next_89 : decode cX0_next 89 = .ok (.putfield 382, 3) := dk_181 1 126 (dk_at dksX0_next_3 18 rfl rfl)
theorem dX0_next_92 : decode cX0_next 92 = .ok (.aload_n 0, 1) := dk_42 (dk_at dksX0_next_3 21 rfl rfl)
theorem dX0_next_93 : decode cX0_next 93 = .ok (.iconst 1, 1) := dk_4 (dk_at dksX0_next_3 22 rfl rfl)
theorem dX0_next_94 : decode cX0_next 94 = .ok (.putfield 374, 3) := dk_181 1 118 (dk_at dksX0_next_4 0 rfl rfl)
theorem dX0_next_97 : decode cX0_next 97 = .ok (.aload_n 0, 1) := dk_42 (dk_at dksX0_next_4 3 rfl rfl)
theorem dX0_next_98 : decode cX0_next 98 = .ok (.iload_n 1, 1) := dk_27 (dk_at dksX0_next_4 4 rfl rfl)
theorem dX0_next_99 : decode cX0_next 99 = .ok (.invokevirtual 379, 3) := dk_182 1 123 (dk_at dksX0_next_4 5 rfl rfl)
theorem dX0_next_102 : decode cX0_next 102 = .ok (.istore_n 2, 1) := dk_61 (dk_at dksX0_next_4 8 rfl rfl)
theorem dX0_next_103 : decode cX0_next 103 = .ok (.iload_n 2, 1) := dk_28 (dk_at dksX0_next_4 9 rfl rfl)
theorem dX0_next_104 : decode cX0_next 104 = .ok (.iconst 1, 1) := dk_4 (dk_at dksX0_next_4 10 rfl rfl)
theorem dX0_next_105 : decode cX0_next 105 = .ok (.if_icmp .ne 45, 3) := dk_160 0 45 (dk_at dksX0_next_4 11 rfl rfl)
theorem dX0_next_108 : decode cX0_next 108 = .ok (.aload_n 0, 1) := dk_42 (dk_at dksX0_next_4 14 rfl rfl)
theorem dX0_next_109 : decode cX0_next 109 = .ok (.getfield 74, 3) := dk_180 0 74 (dk_at dksX0_next_4 15 rfl rfl)
theorem dX0_next_112 : decode cX0_next 112 = .ok (.aload_n 0, 1) := dk_42 (dk_at dksX0_next_4 18 rfl rfl)
theorem dX0_next_113 : decode cX0_next 113 = .ok (.getfield 428, 3) := dk_180 1 172 (dk_at dksX0_next_4 19 rfl rfl)
theorem dX0_next_116 : decode cX0_next 116 = .ok (.iconst 1, 1) := dk_4 (dk_at dksX0_next_4 22 rfl rfl)
theorem dX0_next_117 : decode cX0_next 117 = .ok (.iadd, 1) := dk_96 (dk_at dksX0_next_4 23 rfl rfl)
theorem dX0_next_118 : decode cX0_next 118 = .ok (.aload_n 0, 1) := dk_42 (dk_at dksX0_next_5 0 rfl rfl)
theorem dX0_next_119 : decode cX0_next 119 = .ok (.aload_n 0, 1) := dk_42 (dk_at dksX0_next_5 1 rfl rfl)
theorem dX0_next_120 : decode cX0_next 120 = .ok (.getfield 54, 3) := dk_180 0 54 (dk_at dksX0_next_5 2 rfl rfl)
theorem dX0_next_123 : decode cX0_next 123 = .ok (.aload_n 0, 1) := dk_42 (dk_at dksX0_next_5 5 rfl rfl)
theorem dX0_next_124 : decode cX0_next 124 = .ok (.getfield 71, 3) := dk_180 0 71 (dk_at dksX0_next_5 6 rfl rfl)
theorem dX0_next_127 : decode cX0_next 127 = .ok (.aload_n 0, 1) := dk_42 (dk_at dksX0_next_5 9 rfl rfl)
theorem dX0_next_128 : decode cX0_next 128 = .ok (.getfield 74, 3) := dk_180 0 74 (dk_at dksX0_next_5 10 rfl rfl)
theorem dX0_next_131 : decode cX0_next 131 = .ok (.aload_n 0, 1) := dk_42 (dk_at dksX0_next_5 13 rfl rfl)
theorem dX0_next_132 : decode cX0_next 132 = .ok (.getfield 428, 3) := dk_180 1 172 (dk_at dksX0_next_5 14 rfl rfl)
theorem dX0_next_135 : decode cX0_next 135 = .ok (.iaload, 1) := dk_46 (dk_at dksX0_next_5 17 rfl rfl)
theorem dX0_next_136 : decode cX0_next 136 = .ok (.invokevirtual 517, 3) := dk_182 2 5 (dk_at dksX0_next_5 18 rfl rfl)
theorem dX0_next_139 : decode cX0_next 139 = .ok (.iastore, 1) := dk_79 (dk_at dksX0_next_5 21 rfl rfl)
theorem dX0_next_140 : decode cX0_next 140 = .ok (.aload_n 0, 1) := dk_42 (dk_at dksX0_next_5 22 rfl rfl)
theorem dX0_next_141 : decode cX0_next 141 = .ok (.dup, 1) := dk_89 (dk_at dksX0_next_5 23 rfl rfl)
theorem dX0_next_142 : decode cX0_next 142 = .ok (.getfield 428, 3) := dk_180 1 172 (dk_at dksX0_next_6 0 rfl rfl)
theorem dX0_next_145 : decode cX0_next 145 = .ok (.iconst 1, 1) := dk_4 (dk_at dksX0_next_6 3 rfl rfl)
theorem dX0_next_146 : decode cX0_next 146 = .ok (.iadd, 1) := dk_96 (dk_at dksX0_next_6 4 rfl rfl)
theorem dX0_next_147 : decode cX0_next 147 = .ok (.putfield 428, 3) := dk_181 1 172 (dk_at dksX0_next_6 5 rfl rfl)
theorem dX0_next_150 : decode cX0_next 150 = .ok (.iload_n 2, 1) := dk_28 (dk_at dksX0_next_6 8 rfl rfl)
theorem dX0_next_151 : decode cX0_next 151 = .ok (.ireturn, 1) := dk_172 (dk_at dksX0_next_6 9 rfl rfl)
abbrev cX0_barBy : ByteArray := prog_1_method_82_code
def yX0_barBy : MethodName := ⟨RX0, "barBy", "(LClauseCourt$Engine;[II)I"⟩
def dkwX0_barBy_2 : List UInt8 := [21, 5, 4, 96, 116, 167, 0, 7, 21, 5, 4, 96, 79, 132, 5, 1, 167, 255, 200, 21, 4, 172]
abbrev dktX0_barBy_2 : List UInt8 := dkwX0_barBy_2 ++ []
def dkwX0_barBy_1 : List UInt8 := [180, 1, 255, 153, 0, 34, 44, 21, 4, 132, 4, 1, 43, 180, 1, 110, 21, 5, 4, 96, 46, 158, 0, 11]
abbrev dktX0_barBy_1 : List UInt8 := dkwX0_barBy_1 ++ dktX0_barBy_2
def dkwX0_barBy_0 : List UInt8 := [29, 54, 4, 3, 54, 5, 21, 5, 42, 180, 0, 100, 162, 0, 53, 42, 180, 0, 11, 21, 5, 50]
abbrev dktX0_barBy_0 : List UInt8 := dkwX0_barBy_0 ++ dktX0_barBy_1
theorem dksX0_barBy_0 : cX0_barBy.data.toList.drop 0 = dktX0_barBy_0 := by decide +kernel
theorem dksX0_barBy_1 : cX0_barBy.data.toList.drop 22 = dktX0_barBy_1 := dk_seg dksX0_barBy_0 22 rfl rfl
theorem dksX0_barBy_2 : cX0_barBy.data.toList.drop 46 = dktX0_barBy_2 := dk_seg dksX0_barBy_1 24 rfl rfl
theorem dX0_barBy_0 : decode cX0_barBy 0 = .ok (.iload_n 3, 1) := dk_29 (dk_at dksX0_barBy_0 0 rfl rfl)
theorem dX0_barBy_1 : decode cX0_barBy 1 = .ok (.istore 4, 2) := dk_54 4 (dk_at dksX0_barBy_0 1 rfl rfl)
theorem dX0_barBy_3 : decode cX0_barBy 3 = .ok (.iconst 0, 1) := dk_3 (dk_at dksX0_barBy_0 3 rfl rfl)
theorem dX0_barBy_4 : decode cX0_barBy 4 = .ok (.istore 5, 2) := dk_54 5 (dk_at dksX0_barBy_0 4 rfl rfl)
theorem dX0_barBy_6 : decode cX0_barBy 6 = .ok (.iload 5, 2) := dk_21 5 (dk_at dksX0_barBy_0 6 rfl rfl)
theorem dX0_barBy_8 : decode cX0_barBy 8 = .ok (.aload_n 0, 1) := dk_42 (dk_at dksX0_barBy_0 8 rfl rfl)
theorem dX0_barBy_9 : decode cX0_barBy 9 = .ok (.getfield 100, 3) := dk_180 0 100 (dk_at dksX0_barBy_0 9 rfl rfl)
theorem dX0_barBy_12 : decode cX0_barBy 12 = .ok (.if_icmp .ge 53, 3) := dk_162 0 53 (dk_at dksX0_barBy_0 12 rfl rfl)
theorem dX0_barBy_15 : decode cX0_barBy 15 = .ok (.aload_n 0, 1) := dk_42 (dk_at dksX0_barBy_0 15 rfl rfl)
theorem dX0_barBy_16 : decode cX0_barBy 16 = .ok (.getfield 11, 3) := dk_180 0 11 (dk_at dksX0_barBy_0 16 rfl rfl)
theorem dX0_barBy_19 : decode cX0_barBy 19 = .ok (.iload 5, 2) := dk_21 5 (dk_at dksX0_barBy_0 19 rfl rfl)
theorem dX0_barBy_21 : decode cX0_barBy 21 = .ok (.aaload, 1) := dk_50 (dk_at dksX0_barBy_0 21 rfl rfl)
theorem dX0_barBy_22 : decode cX0_barBy 22 = .ok (.getfield 511, 3) := dk_180 1 255 (dk_at dksX0_barBy_1 0 rfl rfl)
theorem dX0_barBy_25 : decode cX0_barBy 25 = .ok (.ifCond .eq 34, 3) := dk_153 0 34 (dk_at dksX0_barBy_1 3 rfl rfl)
theorem dX0_barBy_28 : decode cX0_barBy 28 = .ok (.aload_n 2, 1) := dk_44 (dk_at dksX0_barBy_1 6 rfl rfl)
theorem dX0_barBy_29 : decode cX0_barBy 29 = .ok (.iload 4, 2) := dk_21 4 (dk_at dksX0_barBy_1 7 rfl rfl)
theorem dX0_barBy_31 : decode cX0_barBy 31 = .ok (.iinc 4 1, 3) := dk_132 4 1 (dk_at dksX0_barBy_1 9 rfl rfl)
theorem dX0_barBy_34 : decode cX0_barBy 34 = .ok (.aload_n 1, 1) := dk_43 (dk_at dksX0_barBy_1 12 rfl rfl)
theorem dX0_barBy_35 : decode cX0_barBy 35 = .ok (.getfield 366, 3) := dk_180 1 110 (dk_at dksX0_barBy_1 13 rfl rfl)
theorem dX0_barBy_38 : decode cX0_barBy 38 = .ok (.iload 5, 2) := dk_21 5 (dk_at dksX0_barBy_1 16 rfl rfl)
theorem dX0_barBy_40 : decode cX0_barBy 40 = .ok (.iconst 1, 1) := dk_4 (dk_at dksX0_barBy_1 18 rfl rfl)
theorem dX0_barBy_41 : decode cX0_barBy 41 = .ok (.iadd, 1) := dk_96 (dk_at dksX0_barBy_1 19 rfl rfl)
theorem dX0_barBy_42 : decode cX0_barBy 42 = .ok (.iaload, 1) := dk_46 (dk_at dksX0_barBy_1 20 rfl rfl)
theorem dX0_barBy_43 : decode cX0_barBy 43 = .ok (.ifCond .le 11, 3) := dk_158 0 11 (dk_at dksX0_barBy_1 21 rfl rfl)
theorem dX0_barBy_46 : decode cX0_barBy 46 = .ok (.iload 5, 2) := dk_21 5 (dk_at dksX0_barBy_2 0 rfl rfl)
theorem dX0_barBy_48 : decode cX0_barBy 48 = .ok (.iconst 1, 1) := dk_4 (dk_at dksX0_barBy_2 2 rfl rfl)
theorem dX0_barBy_49 : decode cX0_barBy 49 = .ok (.iadd, 1) := dk_96 (dk_at dksX0_barBy_2 3 rfl rfl)
theorem dX0_barBy_50 : decode cX0_barBy 50 = .ok (.ineg, 1) := dk_116 (dk_at dksX0_barBy_2 4 rfl rfl)
theorem dX0_barBy_51 : decode cX0_barBy 51 = .ok (.goto 7, 3) := dk_167 0 7 (dk_at dksX0_barBy_2 5 rfl rfl)
theorem dX0_barBy_54 : decode cX0_barBy 54 = .ok (.iload 5, 2) := dk_21 5 (dk_at dksX0_barBy_2 8 rfl rfl)
theorem dX0_barBy_56 : decode cX0_barBy 56 = .ok (.iconst 1, 1) := dk_4 (dk_at dksX0_barBy_2 10 rfl rfl)
theorem dX0_barBy_57 : decode cX0_barBy 57 = .ok (.iadd, 1) := dk_96 (dk_at dksX0_barBy_2 11 rfl rfl)
theorem dX0_barBy_58 : decode cX0_barBy 58 = .ok (.iastore, 1) := dk_79 (dk_at dksX0_barBy_2 12 rfl rfl)
theorem dX0_barBy_59 : decode cX0_barBy 59 = .ok (.iinc 5 1, 3) := dk_132 5 1 (dk_at dksX0_barBy_2 13 rfl rfl)
theorem dX0_barBy_62 : decode cX0_barBy 62 = .ok (.goto (-56), 3) := dk_167 255 200 (dk_at dksX0_barBy_2 16 rfl rfl)
theorem dX0_barBy_65 : decode cX0_barBy 65 = .ok (.iload 4, 2) := dk_21 4 (dk_at dksX0_barBy_2 19 rfl rfl)
theorem dX0_barBy_67 : decode cX0_barBy 67 = .ok (.ireturn, 1) := dk_172 (dk_at dksX0_barBy_2 21 rfl rfl)
abbrev cX0_unbar : ByteArray := prog_1_method_84_code
def yX0_unbar : MethodName := ⟨RX0, "unbar", "()I"⟩
def dkwX0_unbar_0 : List UInt8 := [42, 180, 1, 172, 60, 42, 3, 181, 1, 172, 27, 172]
abbrev dktX0_unbar_0 : List UInt8 := dkwX0_unbar_0 ++ []
theorem dksX0_unbar_0 : cX0_unbar.data.toList.drop 0 = dktX0_unbar_0 := by decide +kernel
theorem dX0_unbar_0 : decode cX0_unbar 0 = .ok (.aload_n 0, 1) := dk_42 (dk_at dksX0_unbar_0 0 rfl rfl)
theorem dX0_unbar_1 : decode cX0_unbar 1 = .ok (.getfield 428, 3) := dk_180 1 172 (dk_at dksX0_unbar_0 1 rfl rfl)
theorem dX0_unbar_4 : decode cX0_unbar 4 = .ok (.istore_n 1, 1) := dk_60 (dk_at dksX0_unbar_0 4 rfl rfl)
theorem dX0_unbar_5 : decode cX0_unbar 5 = .ok (.aload_n 0, 1) := dk_42 (dk_at dksX0_unbar_0 5 rfl rfl)
theorem dX0_unbar_6 : decode cX0_unbar 6 = .ok (.iconst 0, 1) := dk_3 (dk_at dksX0_unbar_0 6 rfl rfl)
theorem dX0_unbar_7 : decode cX0_unbar 7 = .ok (.putfield 428, 3) := dk_181 1 172 (dk_at dksX0_unbar_0 7 rfl rfl)
theorem dX0_unbar_10 : decode cX0_unbar 10 = .ok (.iload_n 1, 1) := dk_27 (dk_at dksX0_unbar_0 10 rfl rfl)
theorem dX0_unbar_11 : decode cX0_unbar 11 = .ok (.ireturn, 1) := dk_172 (dk_at dksX0_unbar_0 11 rfl rfl)
abbrev cX0_count : ByteArray := prog_1_method_85_code
def yX0_count : MethodName := ⟨RX0, "count", "(II)I"⟩
def dkwX0_count_7 : List UInt8 := [21, 4, 46, 182, 2, 5, 79, 132, 4, 1, 167, 255, 118, 27, 172]
abbrev dktX0_count_7 : List UInt8 := dkwX0_count_7 ++ []
def dkwX0_count_6 : List UInt8 := [21, 5, 172, 42, 180, 0, 94, 21, 4, 4, 96, 42, 42, 180, 0, 58, 42, 180, 0, 91, 42, 180, 0, 94]
abbrev dktX0_count_6 : List UInt8 := dkwX0_count_6 ++ dktX0_count_7
def dkwX0_count_5 : List UInt8 := [42, 180, 0, 58, 180, 1, 211, 62, 21, 5, 4, 159, 0, 16, 21, 5, 154, 0, 8, 21, 4, 167, 0, 5]
abbrev dktX0_count_5 : List UInt8 := dkwX0_count_5 ++ dktX0_count_6
def dkwX0_count_4 : List UInt8 := [21, 5, 4, 96, 46, 182, 1, 249, 132, 5, 1, 167, 255, 213, 42, 180, 0, 58, 29, 182, 1, 104, 54, 5]
abbrev dktX0_count_4 : List UInt8 := dkwX0_count_4 ++ dktX0_count_5
def dkwX0_count_3 : List UInt8 := [180, 0, 58, 17, 1, 244, 21, 5, 96, 42, 180, 0, 91, 42, 180, 0, 94, 21, 5, 46, 42, 180, 0, 94]
abbrev dktX0_count_3 : List UInt8 := dkwX0_count_3 ++ dktX0_count_4
def dkwX0_count_2 : List UInt8 := [182, 1, 96, 42, 180, 0, 58, 1, 182, 1, 99, 3, 54, 5, 21, 5, 21, 4, 162, 0, 42, 42]
abbrev dktX0_count_2 : List UInt8 := dkwX0_count_2 ++ dktX0_count_3
def dkwX0_count_1 : List UInt8 := [42, 17, 252, 23, 182, 0, 124, 172, 28, 62, 3, 54, 4, 21, 4, 27, 162, 0, 138, 42, 180, 0, 58]
abbrev dktX0_count_1 : List UInt8 := dkwX0_count_1 ++ dktX0_count_2
def dkwX0_count_0 : List UInt8 := [27, 133, 10, 20, 2, 9, 184, 0, 109, 153, 0, 15, 28, 133, 10, 20, 1, 113, 184, 0, 109, 154, 0, 11]
abbrev dktX0_count_0 : List UInt8 := dkwX0_count_0 ++ dktX0_count_1
theorem dksX0_count_0 : cX0_count.data.toList.drop 0 = dktX0_count_0 := by decide +kernel
theorem dksX0_count_1 : cX0_count.data.toList.drop 24 = dktX0_count_1 := dk_seg dksX0_count_0 24 rfl rfl
theorem dksX0_count_2 : cX0_count.data.toList.drop 47 = dktX0_count_2 := dk_seg dksX0_count_1 23 rfl rfl
theorem dksX0_count_3 : cX0_count.data.toList.drop 69 = dktX0_count_3 := dk_seg dksX0_count_2 22 rfl rfl
theorem dksX0_count_4 : cX0_count.data.toList.drop 93 = dktX0_count_4 := dk_seg dksX0_count_3 24 rfl rfl
theorem dksX0_count_5 : cX0_count.data.toList.drop 117 = dktX0_count_5 := dk_seg dksX0_count_4 24 rfl rfl
theorem dksX0_count_6 : cX0_count.data.toList.drop 141 = dktX0_count_6 := dk_seg dksX0_count_5 24 rfl rfl
theorem dksX0_count_7 : cX0_count.data.toList.drop 165 = dktX0_count_7 := dk_seg dksX0_count_6 24 rfl rfl
theorem dX0_count_0 : decode cX0_count 0 = .ok (.iload_n 1, 1) := dk_27 (dk_at dksX0_count_0 0 rfl rfl)
theorem dX0_count_1 : decode cX0_count 1 = .ok (.i2l, 1) := dk_133 (dk_at dksX0_count_0 1 rfl rfl)
theorem dX0_count_2 : decode cX0_count 2 = .ok (.lconst 1, 1) := dk_10 (dk_at dksX0_count_0 2 rfl rfl)
theorem dX0_count_3 : decode cX0_count 3 = .ok (.ldc2_w 521, 3) := dk_20 2 9 (dk_at dksX0_count_0 3 rfl rfl)
theorem dX0_count_6 : decode cX0_count 6 = .ok (.invokestatic 109, 3) := dk_184 0 109 (dk_at dksX0_count_0 6 rfl rfl)
theorem dX0_count_9 : decode cX0_count 9 = .ok (.ifCond .eq 15, 3) := dk_153 0 15 (dk_at dksX0_count_0 9 rfl rfl)
theorem dX0_count_12 : decode cX0_count 12 = .ok (.iload_n 2, 1) := dk_28 (dk_at dksX0_count_0 12 rfl rfl)
theorem dX0_count_13 : decode cX0_count 13 = .ok (.i2l, 1) := dk_133 (dk_at dksX0_count_0 13 rfl rfl)
theorem dX0_count_14 : decode cX0_count 14 = .ok (.lconst 1, 1) := dk_10 (dk_at dksX0_count_0 14 rfl rfl)
theorem dX0_count_15 : decode cX0_count 15 = .ok (.ldc2_w 369, 3) := dk_20 1 113 (dk_at dksX0_count_0 15 rfl rfl)
theorem dX0_count_18 : decode cX0_count 18 = .ok (.invokestatic 109, 3) := dk_184 0 109 (dk_at dksX0_count_0 18 rfl rfl)
theorem dX0_count_21 : decode cX0_count 21 = .ok (.ifCond .ne 11, 3) := dk_154 0 11 (dk_at dksX0_count_0 21 rfl rfl)
theorem dX0_count_24 : decode cX0_count 24 = .ok (.aload_n 0, 1) := dk_42 (dk_at dksX0_count_1 0 rfl rfl)
theorem dX0_count_25 : decode cX0_count 25 = .ok (.sipush (-1001), 3) := dk_17 252 23 (dk_at dksX0_count_1 1 rfl rfl)
theorem dX0_count_28 : decode cX0_count 28 = .ok (.invokevirtual 124, 3) := dk_182 0 124 (dk_at dksX0_count_1 4 rfl rfl)
theorem dX0_count_31 : decode cX0_count 31 = .ok (.ireturn, 1) := dk_172 (dk_at dksX0_count_1 7 rfl rfl)
theorem dX0_count_32 : decode cX0_count 32 = .ok (.iload_n 2, 1) := dk_28 (dk_at dksX0_count_1 8 rfl rfl)
theorem dX0_count_33 : decode cX0_count 33 = .ok (.istore_n 3, 1) := dk_62 (dk_at dksX0_count_1 9 rfl rfl)
theorem dX0_count_34 : decode cX0_count 34 = .ok (.iconst 0, 1) := dk_3 (dk_at dksX0_count_1 10 rfl rfl)
theorem dX0_count_35 : decode cX0_count 35 = .ok (.istore 4, 2) := dk_54 4 (dk_at dksX0_count_1 11 rfl rfl)
theorem dX0_count_37 : decode cX0_count 37 = .ok (.iload 4, 2) := dk_21 4 (dk_at dksX0_count_1 13 rfl rfl)
theorem dX0_count_39 : decode cX0_count 39 = .ok (.iload_n 1, 1) := dk_27 (dk_at dksX0_count_1 15 rfl rfl)
theorem dX0_count_40 : decode cX0_count 40 = .ok (.if_icmp .ge 138, 3) := dk_162 0 138 (dk_at dksX0_count_1 16 rfl rfl)
theorem dX0_count_43 : decode cX0_count 43 = .ok (.aload_n 0, 1) := dk_42 (dk_at dksX0_count_1 19 rfl rfl)
theorem dX0_count_44 : decode cX0_count 44 = .ok (.getfield 58, 3) := dk_180 0 58 (dk_at dksX0_count_1 20 rfl rfl)
theorem dX0_count_47 : decode cX0_count 47 = .ok (.invokevirtual 352, 3) := dk_182 1 96 (dk_at dksX0_count_2 0 rfl rfl)
theorem dX0_count_50 : decode cX0_count 50 = .ok (.aload_n 0, 1) := dk_42 (dk_at dksX0_count_2 3 rfl rfl)
theorem dX0_count_51 : decode cX0_count 51 = .ok (.getfield 58, 3) := dk_180 0 58 (dk_at dksX0_count_2 4 rfl rfl)
theorem dX0_count_54 : decode cX0_count 54 = .ok (.aconst_null, 1) := dk_1 (dk_at dksX0_count_2 7 rfl rfl)
theorem dX0_count_55 : decode cX0_count 55 = .ok (.invokevirtual 355, 3) := dk_182 1 99 (dk_at dksX0_count_2 8 rfl rfl)
theorem dX0_count_58 : decode cX0_count 58 = .ok (.iconst 0, 1) := dk_3 (dk_at dksX0_count_2 11 rfl rfl)
theorem dX0_count_59 : decode cX0_count 59 = .ok (.istore 5, 2) := dk_54 5 (dk_at dksX0_count_2 12 rfl rfl)
theorem dX0_count_61 : decode cX0_count 61 = .ok (.iload 5, 2) := dk_21 5 (dk_at dksX0_count_2 14 rfl rfl)
theorem dX0_count_63 : decode cX0_count 63 = .ok (.iload 4, 2) := dk_21 4 (dk_at dksX0_count_2 16 rfl rfl)
theorem dX0_count_65 : decode cX0_count 65 = .ok (.if_icmp .ge 42, 3) := dk_162 0 42 (dk_at dksX0_count_2 18 rfl rfl)
theorem dX0_count_68 : decode cX0_count 68 = .ok (.aload_n 0, 1) := dk_42 (dk_at dksX0_count_2 21 rfl rfl)
theorem dX0_count_69 : decode cX0_count 69 = .ok (.getfield 58, 3) := dk_180 0 58 (dk_at dksX0_count_3 0 rfl rfl)
theorem dX0_count_72 : decode cX0_count 72 = .ok (.sipush 500, 3) := dk_17 1 244 (dk_at dksX0_count_3 3 rfl rfl)
theorem dX0_count_75 : decode cX0_count 75 = .ok (.iload 5, 2) := dk_21 5 (dk_at dksX0_count_3 6 rfl rfl)
theorem dX0_count_77 : decode cX0_count 77 = .ok (.iadd, 1) := dk_96 (dk_at dksX0_count_3 8 rfl rfl)
theorem dX0_count_78 : decode cX0_count 78 = .ok (.aload_n 0, 1) := dk_42 (dk_at dksX0_count_3 9 rfl rfl)
theorem dX0_count_79 : decode cX0_count 79 = .ok (.getfield 91, 3) := dk_180 0 91 (dk_at dksX0_count_3 10 rfl rfl)
theorem dX0_count_82 : decode cX0_count 82 = .ok (.aload_n 0, 1) := dk_42 (dk_at dksX0_count_3 13 rfl rfl)
theorem dX0_count_83 : decode cX0_count 83 = .ok (.getfield 94, 3) := dk_180 0 94 (dk_at dksX0_count_3 14 rfl rfl)
theorem dX0_count_86 : decode cX0_count 86 = .ok (.iload 5, 2) := dk_21 5 (dk_at dksX0_count_3 17 rfl rfl)
theorem dX0_count_88 : decode cX0_count 88 = .ok (.iaload, 1) := dk_46 (dk_at dksX0_count_3 19 rfl rfl)
theorem dX0_count_89 : decode cX0_count 89 = .ok (.aload_n 0, 1) := dk_42 (dk_at dksX0_count_3 20 rfl rfl)
theorem dX0_count_90 : decode cX0_count 90 = .ok (.getfield 94, 3) := dk_180 0 94 (dk_at dksX0_count_3 21 rfl rfl)
theorem dX0_count_93 : decode cX0_count 93 = .ok (.iload 5, 2) := dk_21 5 (dk_at dksX0_count_4 0 rfl rfl)
theorem dX0_count_95 : decode cX0_count 95 = .ok (.iconst 1, 1) := dk_4 (dk_at dksX0_count_4 2 rfl rfl)
theorem dX0_count_96 : decode cX0_count 96 = .ok (.iadd, 1) := dk_96 (dk_at dksX0_count_4 3 rfl rfl)
theorem dX0_count_97 : decode cX0_count 97 = .ok (.iaload, 1) := dk_46 (dk_at dksX0_count_4 4 rfl rfl)
theorem dX0_count_98 : decode cX0_count 98 = .ok (.invokevirtual 505, 3) := dk_182 1 249 (dk_at dksX0_count_4 5 rfl rfl)
theorem dX0_count_101 : decode cX0_count 101 = .ok (.iinc 5 1, 3) := dk_132 5 1 (dk_at dksX0_count_4 8 rfl rfl)
theorem dX0_count_104 : decode cX0_count 104 = .ok (.goto (-43), 3) := dk_167 255 213 (dk_at dksX0_count_4 11 rfl rfl)
theorem dX0_count_107 : decode cX0_count 107 = .ok (.aload_n 0, 1) := dk_42 (dk_at dksX0_count_4 14 rfl rfl)
theorem dX0_count_108 : decode cX0_count 108 = .ok (.getfield 58, 3) := dk_180 0 58 (dk_at dksX0_count_4 15 rfl rfl)
theorem dX0_count_111 : decode cX0_count 111 = .ok (.iload_n 3, 1) := dk_29 (dk_at dksX0_count_4 18 rfl rfl)
theorem dX0_count_112 : decode cX0_count 112 = .ok (.invokevirtual 360, 3) := dk_182 1 104 (dk_at dksX0_count_4 19 rfl rfl)
theorem dX0_count_115 : decode cX0_count 115 = .ok (.istore 5, 2) := dk_54 5 (dk_at dksX0_count_4 22 rfl rfl)
theorem dX0_count_117 : decode cX0_count 117 = .ok (.aload_n 0, 1) := dk_42 (dk_at dksX0_count_5 0 rfl rfl)
theorem dX0_count_118 : decode cX0_count 118 = .ok (.getfield 58, 3) := dk_180 0 58 (dk_at dksX0_count_5 1 rfl rfl)
theorem dX0_count_121 : decode cX0_count 121 = .ok (.getfield 467, 3) := dk_180 1 211 (dk_at dksX0_count_5 4 rfl rfl)
theorem dX0_count_124 : decode cX0_count 124 = .ok (.istore_n 3, 1) := dk_62 (dk_at dksX0_count_5 7 rfl rfl)
theorem dX0_count_125 : decode cX0_count 125 = .ok (.iload 5, 2) := dk_21 5 (dk_at dksX0_count_5 8 rfl rfl)
theorem dX0_count_127 : decode cX0_count 127 = .ok (.iconst 1, 1) := dk_4 (dk_at dksX0_count_5 10 rfl rfl)
theorem dX0_count_128 : decode cX0_count 128 = .ok (.if_icmp .eq 16, 3) := dk_159 0 16 (dk_at dksX0_count_5 11 rfl rfl)
theorem dX0_count_131 : decode cX0_count 131 = .ok (.iload 5, 2) := dk_21 5 (dk_at dksX0_count_5 14 rfl rfl)
theorem dX0_count_133 : decode cX0_count 133 = .ok (.ifCond .ne 8, 3) := dk_154 0 8 (dk_at dksX0_count_5 16 rfl rfl)
theorem dX0_count_136 : decode cX0_count 136 = .ok (.iload 4, 2) := dk_21 4 (dk_at dksX0_count_5 19 rfl rfl)
theorem dX0_count_138 : decode cX0_count 138 = .ok (.goto 5, 3) := dk_167 0 5 (dk_at dksX0_count_5 21 rfl rfl)
theorem dX0_count_141 : decode cX0_count 141 = .ok (.iload 5, 2) := dk_21 5 (dk_at dksX0_count_6 0 rfl rfl)
theorem dX0_count_143 : decode cX0_count 143 = .ok (.ireturn, 1) := dk_172 (dk_at dksX0_count_6 2 rfl rfl)
theorem dX0_count_144 : decode cX0_count 144 = .ok (.aload_n 0, 1) := dk_42 (dk_at dksX0_count_6 3 rfl rfl)
theorem dX0_count_145 : decode cX0_count 145 = .ok (.getfield 94, 3) := dk_180 0 94 (dk_at dksX0_count_6 4 rfl rfl)
theorem dX0_count_148 : decode cX0_count 148 = .ok (.iload 4, 2) := dk_21 4 (dk_at dksX0_count_6 7 rfl rfl)
theorem dX0_count_150 : decode cX0_count 150 = .ok (.iconst 1, 1) := dk_4 (dk_at dksX0_count_6 9 rfl rfl)
theorem dX0_count_151 : decode cX0_count 151 = .ok (.iadd, 1) := dk_96 (dk_at dksX0_count_6 10 rfl rfl)
theorem dX0_count_152 : decode cX0_count 152 = .ok (.aload_n 0, 1) := dk_42 (dk_at dksX0_count_6 11 rfl rfl)
theorem dX0_count_153 : decode cX0_count 153 = .ok (.aload_n 0, 1) := dk_42 (dk_at dksX0_count_6 12 rfl rfl)
theorem dX0_count_154 : decode cX0_count 154 = .ok (.getfield 58, 3) := dk_180 0 58 (dk_at dksX0_count_6 13 rfl rfl)
theorem dX0_count_157 : decode cX0_count 157 = .ok (.aload_n 0, 1) := dk_42 (dk_at dksX0_count_6 16 rfl rfl)
theorem dX0_count_158 : decode cX0_count 158 = .ok (.getfield 91, 3) := dk_180 0 91 (dk_at dksX0_count_6 17 rfl rfl)
theorem dX0_count_161 : decode cX0_count 161 = .ok (.aload_n 0, 1) := dk_42 (dk_at dksX0_count_6 20 rfl rfl)
theorem dX0_count_162 : decode cX0_count 162 = .ok (.getfield 94, 3) := dk_180 0 94 (dk_at dksX0_count_6 21 rfl rfl)
theorem dX0_count_165 : decode cX0_count 165 = .ok (.iload 4, 2) := dk_21 4 (dk_at dksX0_count_7 0 rfl rfl)
theorem dX0_count_167 : decode cX0_count 167 = .ok (.iaload, 1) := dk_46 (dk_at dksX0_count_7 2 rfl rfl)
theorem dX0_count_168 : decode cX0_count 168 = .ok (.invokevirtual 517, 3) := dk_182 2 5 (dk_at dksX0_count_7 3 rfl rfl)
theorem dX0_count_171 : decode cX0_count 171 = .ok (.iastore, 1) := dk_79 (dk_at dksX0_count_7 6 rfl rfl)
theorem dX0_count_172 : decode cX0_count 172 = .ok (.iinc 4 1, 3) := dk_132 4 1 (dk_at dksX0_count_7 7 rfl rfl)
theorem dX0_count_175 : decode cX0_count 175 = .ok (.goto (-138), 3) := dk_167 255 118 (dk_at dksX0_count_7 10 rfl rfl)
theorem dX0_count_178 : decode cX0_count 178 = .ok (.iload_n 1, 1) := dk_27 (dk_at dksX0_count_7 13 rfl rfl)
theorem dX0_count_179 : decode cX0_count 179 = .ok (.ireturn, 1) := dk_172 (dk_at dksX0_count_7 14 rfl rfl)
abbrev cX0_forced : ByteArray := prog_1_method_87_code
def yX0_forced : MethodName := ⟨RX0, "forced", "()I"⟩
def dkwX0_forced_0 : List UInt8 := [42, 182, 2, 11, 17, 252, 19, 160, 0, 13, 42, 180, 0, 58, 180, 2, 14, 167, 0, 6, 17, 252, 19, 172]
abbrev dktX0_forced_0 : List UInt8 := dkwX0_forced_0 ++ []
theorem dksX0_forced_0 : cX0_forced.data.toList.drop 0 = dktX0_forced_0 := by decide +kernel
theorem dX0_forced_0 : decode cX0_forced 0 = .ok (.aload_n 0, 1) := dk_42 (dk_at dksX0_forced_0 0 rfl rfl)
theorem dX0_forced_1 : decode cX0_forced 1 = .ok (.invokevirtual 523, 3) := dk_182 2 11 (dk_at dksX0_forced_0 1 rfl rfl)
theorem dX0_forced_4 : decode cX0_forced 4 = .ok (.sipush (-1005), 3) := dk_17 252 19 (dk_at dksX0_forced_0 4 rfl rfl)
theorem dX0_forced_7 : decode cX0_forced 7 = .ok (.if_icmp .ne 13, 3) := dk_160 0 13 (dk_at dksX0_forced_0 7 rfl rfl)
theorem dX0_forced_10 : decode cX0_forced 10 = .ok (.aload_n 0, 1) := dk_42 (dk_at dksX0_forced_0 10 rfl rfl)
theorem dX0_forced_11 : decode cX0_forced 11 = .ok (.getfield 58, 3) := dk_180 0 58 (dk_at dksX0_forced_0 11 rfl rfl)
theorem dX0_forced_14 : decode cX0_forced 14 = .ok (.getfield 526, 3) := dk_180 2 14 (dk_at dksX0_forced_0 14 rfl rfl)
theorem dX0_forced_17 : decode cX0_forced 17 = .ok (.goto 6, 3) := dk_167 0 6 (dk_at dksX0_forced_0 17 rfl rfl)
theorem dX0_forced_20 : decode cX0_forced 20 = .ok (.sipush (-1005), 3) := dk_17 252 19 (dk_at dksX0_forced_0 20 rfl rfl)
theorem dX0_forced_23 : decode cX0_forced 23 = .ok (.ireturn, 1) := dk_172 (dk_at dksX0_forced_0 23 rfl rfl)
abbrev cX0_forcing : ByteArray := prog_1_method_86_code
def yX0_forcing : MethodName := ⟨RX0, "forcing", "()I"⟩
def dkwX0_forcing_1 : List UInt8 := [181, 1, 211, 42, 180, 0, 58, 182, 1, 240, 172]
abbrev dktX0_forcing_1 : List UInt8 := dkwX0_forcing_1 ++ []
def dkwX0_forcing_0 : List UInt8 := [42, 180, 0, 58, 182, 1, 96, 42, 180, 0, 58, 1, 182, 1, 99, 42, 180, 0, 58, 19, 1, 233]
abbrev dktX0_forcing_0 : List UInt8 := dkwX0_forcing_0 ++ dktX0_forcing_1
theorem dksX0_forcing_0 : cX0_forcing.data.toList.drop 0 = dktX0_forcing_0 := by decide +kernel
theorem dksX0_forcing_1 : cX0_forcing.data.toList.drop 22 = dktX0_forcing_1 := dk_seg dksX0_forcing_0 22 rfl rfl
theorem dX0_forcing_0 : decode cX0_forcing 0 = .ok (.aload_n 0, 1) := dk_42 (dk_at dksX0_forcing_0 0 rfl rfl)
theorem dX0_forcing_1 : decode cX0_forcing 1 = .ok (.getfield 58, 3) := dk_180 0 58 (dk_at dksX0_forcing_0 1 rfl rfl)
theorem dX0_forcing_4 : decode cX0_forcing 4 = .ok (.invokevirtual 352, 3) := dk_182 1 96 (dk_at dksX0_forcing_0 4 rfl rfl)
theorem dX0_forcing_7 : decode cX0_forcing 7 = .ok (.aload_n 0, 1) := dk_42 (dk_at dksX0_forcing_0 7 rfl rfl)
theorem dX0_forcing_8 : decode cX0_forcing 8 = .ok (.getfield 58, 3) := dk_180 0 58 (dk_at dksX0_forcing_0 8 rfl rfl)
theorem dX0_forcing_11 : decode cX0_forcing 11 = .ok (.aconst_null, 1) := dk_1 (dk_at dksX0_forcing_0 11 rfl rfl)
theorem dX0_forcing_12 : decode cX0_forcing 12 = .ok (.invokevirtual 355, 3) := dk_182 1 99 (dk_at dksX0_forcing_0 12 rfl rfl)
theorem dX0_forcing_15 : decode cX0_forcing 15 = .ok (.aload_n 0, 1) := dk_42 (dk_at dksX0_forcing_0 15 rfl rfl)
theorem dX0_forcing_16 : decode cX0_forcing 16 = .ok (.getfield 58, 3) := dk_180 0 58 (dk_at dksX0_forcing_0 16 rfl rfl)
theorem dX0_forcing_19 : decode cX0_forcing 19 = .ok (.ldc_w 489, 3) := dk_19 1 233 (dk_at dksX0_forcing_0 19 rfl rfl)
theorem dX0_forcing_22 : decode cX0_forcing 22 = .ok (.putfield 467, 3) := dk_181 1 211 (dk_at dksX0_forcing_1 0 rfl rfl)
theorem dX0_forcing_25 : decode cX0_forcing 25 = .ok (.aload_n 0, 1) := dk_42 (dk_at dksX0_forcing_1 3 rfl rfl)
theorem dX0_forcing_26 : decode cX0_forcing 26 = .ok (.getfield 58, 3) := dk_180 0 58 (dk_at dksX0_forcing_1 4 rfl rfl)
theorem dX0_forcing_29 : decode cX0_forcing 29 = .ok (.invokevirtual 496, 3) := dk_182 1 240 (dk_at dksX0_forcing_1 7 rfl rfl)
theorem dX0_forcing_32 : decode cX0_forcing 32 = .ok (.ireturn, 1) := dk_172 (dk_at dksX0_forcing_1 10 rfl rfl)
abbrev cX0_forcedAt : ByteArray := prog_1_method_88_code
def yX0_forcedAt : MethodName := ⟨RX0, "forcedAt", "(I)I"⟩
def dkwX0_forcedAt_1 : List UInt8 := [42, 180, 0, 58, 180, 2, 17, 27, 46, 167, 0, 6, 17, 252, 19, 172]
abbrev dktX0_forcedAt_1 : List UInt8 := dkwX0_forcedAt_1 ++ []
def dkwX0_forcedAt_0 : List UInt8 := [42, 182, 2, 11, 87, 27, 133, 9, 42, 180, 0, 58, 180, 2, 14, 4, 100, 133, 184, 0, 109, 153, 0, 15]
abbrev dktX0_forcedAt_0 : List UInt8 := dkwX0_forcedAt_0 ++ dktX0_forcedAt_1
theorem dksX0_forcedAt_0 : cX0_forcedAt.data.toList.drop 0 = dktX0_forcedAt_0 := by decide +kernel
theorem dksX0_forcedAt_1 : cX0_forcedAt.data.toList.drop 24 = dktX0_forcedAt_1 := dk_seg dksX0_forcedAt_0 24 rfl rfl
theorem dX0_forcedAt_0 : decode cX0_forcedAt 0 = .ok (.aload_n 0, 1) := dk_42 (dk_at dksX0_forcedAt_0 0 rfl rfl)
theorem dX0_forcedAt_1 : decode cX0_forcedAt 1 = .ok (.invokevirtual 523, 3) := dk_182 2 11 (dk_at dksX0_forcedAt_0 1 rfl rfl)
theorem dX0_forcedAt_4 : decode cX0_forcedAt 4 = .ok (.pop, 1) := dk_87 (dk_at dksX0_forcedAt_0 4 rfl rfl)
theorem dX0_forcedAt_5 : decode cX0_forcedAt 5 = .ok (.iload_n 1, 1) := dk_27 (dk_at dksX0_forcedAt_0 5 rfl rfl)
theorem dX0_forcedAt_6 : decode cX0_forcedAt 6 = .ok (.i2l, 1) := dk_133 (dk_at dksX0_forcedAt_0 6 rfl rfl)
theorem dX0_forcedAt_7 : decode cX0_forcedAt 7 = .ok (.lconst 0, 1) := dk_9 (dk_at dksX0_forcedAt_0 7 rfl rfl)
theorem dX0_forcedAt_8 : decode cX0_forcedAt 8 = .ok (.aload_n 0, 1) := dk_42 (dk_at dksX0_forcedAt_0 8 rfl rfl)
theorem dX0_forcedAt_9 : decode cX0_forcedAt 9 = .ok (.getfield 58, 3) := dk_180 0 58 (dk_at dksX0_forcedAt_0 9 rfl rfl)
theorem dX0_forcedAt_12 : decode cX0_forcedAt 12 = .ok (.getfield 526, 3) := dk_180 2 14 (dk_at dksX0_forcedAt_0 12 rfl rfl)
theorem dX0_forcedAt_15 : decode cX0_forcedAt 15 = .ok (.iconst 1, 1) := dk_4 (dk_at dksX0_forcedAt_0 15 rfl rfl)
theorem dX0_forcedAt_16 : decode cX0_forcedAt 16 = .ok (.isub, 1) := dk_100 (dk_at dksX0_forcedAt_0 16 rfl rfl)
theorem dX0_forcedAt_17 : decode cX0_forcedAt 17 = .ok (.i2l, 1) := dk_133 (dk_at dksX0_forcedAt_0 17 rfl rfl)
theorem dX0_forcedAt_18 : decode cX0_forcedAt 18 = .ok (.invokestatic 109, 3) := dk_184 0 109 (dk_at dksX0_forcedAt_0 18 rfl rfl)
theorem dX0_forcedAt_21 : decode cX0_forcedAt 21 = .ok (.ifCond .eq 15, 3) := dk_153 0 15 (dk_at dksX0_forcedAt_0 21 rfl rfl)
theorem dX0_forcedAt_24 : decode cX0_forcedAt 24 = .ok (.aload_n 0, 1) := dk_42 (dk_at dksX0_forcedAt_1 0 rfl rfl)
theorem dX0_forcedAt_25 : decode cX0_forcedAt 25 = .ok (.getfield 58, 3) := dk_180 0 58 (dk_at dksX0_forcedAt_1 1 rfl rfl)
theorem dX0_forcedAt_28 : decode cX0_forcedAt 28 = .ok (.getfield 529, 3) := dk_180 2 17 (dk_at dksX0_forcedAt_1 4 rfl rfl)
theorem dX0_forcedAt_31 : decode cX0_forcedAt 31 = .ok (.iload_n 1, 1) := dk_27 (dk_at dksX0_forcedAt_1 7 rfl rfl)
theorem dX0_forcedAt_32 : decode cX0_forcedAt 32 = .ok (.iaload, 1) := dk_46 (dk_at dksX0_forcedAt_1 8 rfl rfl)
theorem dX0_forcedAt_33 : decode cX0_forcedAt 33 = .ok (.goto 6, 3) := dk_167 0 6 (dk_at dksX0_forcedAt_1 9 rfl rfl)
theorem dX0_forcedAt_36 : decode cX0_forcedAt 36 = .ok (.sipush (-1005), 3) := dk_17 252 19 (dk_at dksX0_forcedAt_1 12 rfl rfl)
theorem dX0_forcedAt_39 : decode cX0_forcedAt 39 = .ok (.ireturn, 1) := dk_172 (dk_at dksX0_forcedAt_1 15 rfl rfl)
abbrev cX0_why : ByteArray := prog_1_method_89_code
def yX0_why : MethodName := ⟨RX0, "why", "(I)I"⟩
def dkwX0_why_2 : List UInt8 := [17, 252, 19, 172]
abbrev dktX0_why_2 : List UInt8 := dkwX0_why_2 ++ []
def dkwX0_why_1 : List UInt8 := [180, 0, 58, 180, 2, 20, 27, 46, 153, 0, 15, 42, 180, 0, 58, 180, 2, 23, 27, 46, 167, 0, 6]
abbrev dktX0_why_1 : List UInt8 := dkwX0_why_1 ++ dktX0_why_2
def dkwX0_why_0 : List UInt8 := [42, 27, 182, 1, 71, 154, 0, 11, 42, 17, 252, 23, 182, 0, 124, 172, 42, 182, 2, 11, 87, 42]
abbrev dktX0_why_0 : List UInt8 := dkwX0_why_0 ++ dktX0_why_1
theorem dksX0_why_0 : cX0_why.data.toList.drop 0 = dktX0_why_0 := by decide +kernel
theorem dksX0_why_1 : cX0_why.data.toList.drop 22 = dktX0_why_1 := dk_seg dksX0_why_0 22 rfl rfl
theorem dksX0_why_2 : cX0_why.data.toList.drop 45 = dktX0_why_2 := dk_seg dksX0_why_1 23 rfl rfl
theorem dX0_why_0 : decode cX0_why 0 = .ok (.aload_n 0, 1) := dk_42 (dk_at dksX0_why_0 0 rfl rfl)
theorem dX0_why_1 : decode cX0_why 1 = .ok (.iload_n 1, 1) := dk_27 (dk_at dksX0_why_0 1 rfl rfl)
theorem dX0_why_2 : decode cX0_why 2 = .ok (.invokevirtual 327, 3) := dk_182 1 71 (dk_at dksX0_why_0 2 rfl rfl)
theorem dX0_why_5 : decode cX0_why 5 = .ok (.ifCond .ne 11, 3) := dk_154 0 11 (dk_at dksX0_why_0 5 rfl rfl)
theorem dX0_why_8 : decode cX0_why 8 = .ok (.aload_n 0, 1) := dk_42 (dk_at dksX0_why_0 8 rfl rfl)
theorem dX0_why_9 : decode cX0_why 9 = .ok (.sipush (-1001), 3) := dk_17 252 23 (dk_at dksX0_why_0 9 rfl rfl)
theorem dX0_why_12 : decode cX0_why 12 = .ok (.invokevirtual 124, 3) := dk_182 0 124 (dk_at dksX0_why_0 12 rfl rfl)
theorem dX0_why_15 : decode cX0_why 15 = .ok (.ireturn, 1) := dk_172 (dk_at dksX0_why_0 15 rfl rfl)
theorem dX0_why_16 : decode cX0_why 16 = .ok (.aload_n 0, 1) := dk_42 (dk_at dksX0_why_0 16 rfl rfl)
theorem dX0_why_17 : decode cX0_why 17 = .ok (.invokevirtual 523, 3) := dk_182 2 11 (dk_at dksX0_why_0 17 rfl rfl)
theorem dX0_why_20 : decode cX0_why 20 = .ok (.pop, 1) := dk_87 (dk_at dksX0_why_0 20 rfl rfl)
theorem dX0_why_21 : decode cX0_why 21 = .ok (.aload_n 0, 1) := dk_42 (dk_at dksX0_why_0 21 rfl rfl)
theorem dX0_why_22 : decode cX0_why 22 = .ok (.getfield 58, 3) := dk_180 0 58 (dk_at dksX0_why_1 0 rfl rfl)
theorem dX0_why_25 : decode cX0_why 25 = .ok (.getfield 532, 3) := dk_180 2 20 (dk_at dksX0_why_1 3 rfl rfl)
theorem dX0_why_28 : decode cX0_why 28 = .ok (.iload_n 1, 1) := dk_27 (dk_at dksX0_why_1 6 rfl rfl)
theorem dX0_why_29 : decode cX0_why 29 = .ok (.iaload, 1) := dk_46 (dk_at dksX0_why_1 7 rfl rfl)
theorem dX0_why_30 : decode cX0_why 30 = .ok (.ifCond .eq 15, 3) := dk_153 0 15 (dk_at dksX0_why_1 8 rfl rfl)
theorem dX0_why_33 : decode cX0_why 33 = .ok (.aload_n 0, 1) := dk_42 (dk_at dksX0_why_1 11 rfl rfl)
theorem dX0_why_34 : decode cX0_why 34 = .ok (.getfield 58, 3) := dk_180 0 58 (dk_at dksX0_why_1 12 rfl rfl)
theorem dX0_why_37 : decode cX0_why 37 = .ok (.getfield 535, 3) := dk_180 2 23 (dk_at dksX0_why_1 15 rfl rfl)
theorem dX0_why_40 : decode cX0_why 40 = .ok (.iload_n 1, 1) := dk_27 (dk_at dksX0_why_1 18 rfl rfl)
theorem dX0_why_41 : decode cX0_why 41 = .ok (.iaload, 1) := dk_46 (dk_at dksX0_why_1 19 rfl rfl)
theorem dX0_why_42 : decode cX0_why 42 = .ok (.goto 6, 3) := dk_167 0 6 (dk_at dksX0_why_1 20 rfl rfl)
theorem dX0_why_45 : decode cX0_why 45 = .ok (.sipush (-1005), 3) := dk_17 252 19 (dk_at dksX0_why_2 0 rfl rfl)
theorem dX0_why_48 : decode cX0_why 48 = .ok (.ireturn, 1) := dk_172 (dk_at dksX0_why_2 3 rfl rfl)
abbrev cX0_digest : ByteArray := prog_1_method_91_code
def yX0_digest : MethodName := ⟨RX0, "digest", "()J"⟩
def dkwX0_digest_11 : List UInt8 := [180, 1, 172, 182, 2, 34, 42, 180, 2, 28, 173]
abbrev dktX0_digest_11 : List UInt8 := dkwX0_digest_11 ++ []
def dkwX0_digest_10 : List UInt8 := [50, 180, 1, 255, 153, 0, 7, 4, 167, 0, 4, 3, 182, 2, 34, 132, 1, 1, 167, 255, 224, 42, 42]
abbrev dktX0_digest_10 : List UInt8 := dkwX0_digest_10 ++ dktX0_digest_11
def dkwX0_digest_9 : List UInt8 := [42, 42, 180, 1, 93, 182, 2, 34, 3, 60, 27, 42, 180, 0, 100, 162, 0, 30, 42, 42, 180, 0, 11, 27]
abbrev dktX0_digest_9 : List UInt8 := dkwX0_digest_9 ++ dktX0_digest_10
def dkwX0_digest_8 : List UInt8 := [46, 182, 2, 34, 132, 5, 1, 167, 255, 231, 132, 3, 1, 167, 255, 196, 42, 42, 180, 1, 88, 182, 2, 34]
abbrev dktX0_digest_8 : List UInt8 := dkwX0_digest_8 ++ dktX0_digest_9
def dkwX0_digest_7 : List UInt8 := [182, 2, 34, 3, 54, 5, 25, 4, 198, 0, 26, 21, 5, 25, 4, 190, 162, 0, 18, 42, 25, 4, 21, 5]
abbrev dktX0_digest_7 : List UInt8 := dkwX0_digest_7 ++ dktX0_digest_8
def dkwX0_digest_6 : List UInt8 := [29, 28, 162, 0, 61, 43, 29, 50, 58, 4, 42, 25, 4, 199, 0, 7, 2, 167, 0, 6, 25, 4, 190]
abbrev dktX0_digest_6 : List UInt8 := dkwX0_digest_6 ++ dktX0_digest_7
def dkwX0_digest_5 : List UInt8 := [182, 2, 34, 132, 1, 1, 167, 255, 235, 42, 3, 182, 2, 34, 42, 180, 0, 17, 76, 43, 190, 61, 3, 62]
abbrev dktX0_digest_5 : List UInt8 := dkwX0_digest_5 ++ dktX0_digest_6
def dkwX0_digest_4 : List UInt8 := [132, 1, 1, 167, 255, 205, 3, 60, 27, 42, 180, 1, 68, 162, 0, 19, 42, 42, 180, 0, 68, 27, 46]
abbrev dktX0_digest_4 : List UInt8 := dkwX0_digest_4 ++ dktX0_digest_5
def dkwX0_digest_3 : List UInt8 := [162, 0, 19, 42, 42, 180, 0, 37, 28, 46, 182, 2, 34, 132, 2, 1, 167, 255, 231, 42, 3, 182, 2, 34]
abbrev dktX0_digest_3 : List UInt8 := dkwX0_digest_3 ++ dktX0_digest_4
def dkwX0_digest_2 : List UInt8 := [27, 42, 180, 0, 202, 162, 0, 49, 42, 180, 0, 40, 27, 46, 61, 28, 42, 180, 0, 40, 27, 4, 96, 46]
abbrev dktX0_digest_2 : List UInt8 := dkwX0_digest_2 ++ dktX0_digest_3
def dkwX0_digest_1 : List UInt8 := [162, 0, 22, 42, 42, 180, 0, 11, 27, 50, 180, 1, 76, 182, 2, 34, 132, 1, 1, 167, 255, 232, 3, 60]
abbrev dktX0_digest_1 : List UInt8 := dkwX0_digest_1 ++ dktX0_digest_2
def dkwX0_digest_0 : List UInt8 := [42, 20, 2, 32, 181, 2, 28, 42, 42, 180, 0, 100, 182, 2, 34, 3, 60, 27, 42, 180, 0, 100]
abbrev dktX0_digest_0 : List UInt8 := dkwX0_digest_0 ++ dktX0_digest_1
theorem dksX0_digest_0 : cX0_digest.data.toList.drop 0 = dktX0_digest_0 := by decide +kernel
theorem dksX0_digest_1 : cX0_digest.data.toList.drop 22 = dktX0_digest_1 := dk_seg dksX0_digest_0 22 rfl rfl
theorem dksX0_digest_2 : cX0_digest.data.toList.drop 46 = dktX0_digest_2 := dk_seg dksX0_digest_1 24 rfl rfl
theorem dksX0_digest_3 : cX0_digest.data.toList.drop 70 = dktX0_digest_3 := dk_seg dksX0_digest_2 24 rfl rfl
theorem dksX0_digest_4 : cX0_digest.data.toList.drop 94 = dktX0_digest_4 := dk_seg dksX0_digest_3 24 rfl rfl
theorem dksX0_digest_5 : cX0_digest.data.toList.drop 117 = dktX0_digest_5 := dk_seg dksX0_digest_4 23 rfl rfl
theorem dksX0_digest_6 : cX0_digest.data.toList.drop 141 = dktX0_digest_6 := dk_seg dksX0_digest_5 24 rfl rfl
theorem dksX0_digest_7 : cX0_digest.data.toList.drop 164 = dktX0_digest_7 := dk_seg dksX0_digest_6 23 rfl rfl
theorem dksX0_digest_8 : cX0_digest.data.toList.drop 188 = dktX0_digest_8 := dk_seg dksX0_digest_7 24 rfl rfl
theorem dksX0_digest_9 : cX0_digest.data.toList.drop 212 = dktX0_digest_9 := dk_seg dksX0_digest_8 24 rfl rfl
theorem dksX0_digest_10 : cX0_digest.data.toList.drop 236 = dktX0_digest_10 := dk_seg dksX0_digest_9 24 rfl rfl
theorem dksX0_digest_11 : cX0_digest.data.toList.drop 259 = dktX0_digest_11 := dk_seg dksX0_digest_10 23 rfl rfl
theorem dX0_digest_0 : decode cX0_digest 0 = .ok (.aload_n 0, 1) := dk_42 (dk_at dksX0_digest_0 0 rfl rfl)
theorem dX0_digest_1 : decode cX0_digest 1 = .ok (.ldc2_w 544, 3) := dk_20 2 32 (dk_at dksX0_digest_0 1 rfl rfl)
theorem dX0_digest_4 : decode cX0_digest 4 = .ok (.putfield 540, 3) := dk_181 2 28 (dk_at dksX0_digest_0 4 rfl rfl)
theorem dX0_digest_7 : decode cX0_digest 7 = .ok (.aload_n 0, 1) := dk_42 (dk_at dksX0_digest_0 7 rfl rfl)
theorem dX0_digest_8 : decode cX0_digest 8 = .ok (.aload_n 0, 1) := dk_42 (dk_at dksX0_digest_0 8 rfl rfl)
theorem dX0_digest_9 : decode cX0_digest 9 = .ok (.getfield 100, 3) := dk_180 0 100 (dk_at dksX0_digest_0 9 rfl rfl)
theorem dX0_digest_12 : decode cX0_digest 12 = .ok (.invokevirtual 546, 3) := dk_182 2 34 (dk_at dksX0_digest_0 12 rfl rfl)
theorem dX0_digest_15 : decode cX0_digest 15 = .ok (.iconst 0, 1) := dk_3 (dk_at dksX0_digest_0 15 rfl rfl)
theorem dX0_digest_16 : decode cX0_digest 16 = .ok (.istore_n 1, 1) := dk_60 (dk_at dksX0_digest_0 16 rfl rfl)
theorem dX0_digest_17 : decode cX0_digest 17 = .ok (.iload_n 1, 1) := dk_27 (dk_at dksX0_digest_0 17 rfl rfl)
theorem dX0_digest_18 : decode cX0_digest 18 = .ok (.aload_n 0, 1) := dk_42 (dk_at dksX0_digest_0 18 rfl rfl)
theorem dX0_digest_19 : decode cX0_digest 19 = .ok (.getfield 100, 3) := dk_180 0 100 (dk_at dksX0_digest_0 19 rfl rfl)
theorem dX0_digest_22 : decode cX0_digest 22 = .ok (.if_icmp .ge 22, 3) := dk_162 0 22 (dk_at dksX0_digest_1 0 rfl rfl)
theorem dX0_digest_25 : decode cX0_digest 25 = .ok (.aload_n 0, 1) := dk_42 (dk_at dksX0_digest_1 3 rfl rfl)
theorem dX0_digest_26 : decode cX0_digest 26 = .ok (.aload_n 0, 1) := dk_42 (dk_at dksX0_digest_1 4 rfl rfl)
theorem dX0_digest_27 : decode cX0_digest 27 = .ok (.getfield 11, 3) := dk_180 0 11 (dk_at dksX0_digest_1 5 rfl rfl)
theorem dX0_digest_30 : decode cX0_digest 30 = .ok (.iload_n 1, 1) := dk_27 (dk_at dksX0_digest_1 8 rfl rfl)
theorem dX0_digest_31 : decode cX0_digest 31 = .ok (.aaload, 1) := dk_50 (dk_at dksX0_digest_1 9 rfl rfl)
theorem dX0_digest_32 : decode cX0_digest 32 = .ok (.getfield 332, 3) := dk_180 1 76 (dk_at dksX0_digest_1 10 rfl rfl)
theorem dX0_digest_35 : decode cX0_digest 35 = .ok (.invokevirtual 546, 3) := dk_182 2 34 (dk_at dksX0_digest_1 13 rfl rfl)
theorem dX0_digest_38 : decode cX0_digest 38 = .ok (.iinc 1 1, 3) := dk_132 1 1 (dk_at dksX0_digest_1 16 rfl rfl)
theorem dX0_digest_41 : decode cX0_digest 41 = .ok (.goto (-24), 3) := dk_167 255 232 (dk_at dksX0_digest_1 19 rfl rfl)
theorem dX0_digest_44 : decode cX0_digest 44 = .ok (.iconst 0, 1) := dk_3 (dk_at dksX0_digest_1 22 rfl rfl)
theorem dX0_digest_45 : decode cX0_digest 45 = .ok (.istore_n 1, 1) := dk_60 (dk_at dksX0_digest_1 23 rfl rfl)
theorem dX0_digest_46 : decode cX0_digest 46 = .ok (.iload_n 1, 1) := dk_27 (dk_at dksX0_digest_2 0 rfl rfl)
theorem dX0_digest_47 : decode cX0_digest 47 = .ok (.aload_n 0, 1) := dk_42 (dk_at dksX0_digest_2 1 rfl rfl)
theorem dX0_digest_48 : decode cX0_digest 48 = .ok (.getfield 202, 3) := dk_180 0 202 (dk_at dksX0_digest_2 2 rfl rfl)
theorem dX0_digest_51 : decode cX0_digest 51 = .ok (.if_icmp .ge 49, 3) := dk_162 0 49 (dk_at dksX0_digest_2 5 rfl rfl)
theorem dX0_digest_54 : decode cX0_digest 54 = .ok (.aload_n 0, 1) := dk_42 (dk_at dksX0_digest_2 8 rfl rfl)
theorem dX0_digest_55 : decode cX0_digest 55 = .ok (.getfield 40, 3) := dk_180 0 40 (dk_at dksX0_digest_2 9 rfl rfl)
theorem dX0_digest_58 : decode cX0_digest 58 = .ok (.iload_n 1, 1) := dk_27 (dk_at dksX0_digest_2 12 rfl rfl)
theorem dX0_digest_59 : decode cX0_digest 59 = .ok (.iaload, 1) := dk_46 (dk_at dksX0_digest_2 13 rfl rfl)
theorem dX0_digest_60 : decode cX0_digest 60 = .ok (.istore_n 2, 1) := dk_61 (dk_at dksX0_digest_2 14 rfl rfl)
theorem dX0_digest_61 : decode cX0_digest 61 = .ok (.iload_n 2, 1) := dk_28 (dk_at dksX0_digest_2 15 rfl rfl)
theorem dX0_digest_62 : decode cX0_digest 62 = .ok (.aload_n 0, 1) := dk_42 (dk_at dksX0_digest_2 16 rfl rfl)
theorem dX0_digest_63 : decode cX0_digest 63 = .ok (.getfield 40, 3) := dk_180 0 40 (dk_at dksX0_digest_2 17 rfl rfl)
theorem dX0_digest_66 : decode cX0_digest 66 = .ok (.iload_n 1, 1) := dk_27 (dk_at dksX0_digest_2 20 rfl rfl)
theorem dX0_digest_67 : decode cX0_digest 67 = .ok (.iconst 1, 1) := dk_4 (dk_at dksX0_digest_2 21 rfl rfl)
theorem dX0_digest_68 : decode cX0_digest 68 = .ok (.iadd, 1) := dk_96 (dk_at dksX0_digest_2 22 rfl rfl)
theorem dX0_digest_69 : decode cX0_digest 69 = .ok (.iaload, 1) := dk_46 (dk_at dksX0_digest_2 23 rfl rfl)
theorem dX0_digest_70 : decode cX0_digest 70 = .ok (.if_icmp .ge 19, 3) := dk_162 0 19 (dk_at dksX0_digest_3 0 rfl rfl)
theorem dX0_digest_73 : decode cX0_digest 73 = .ok (.aload_n 0, 1) := dk_42 (dk_at dksX0_digest_3 3 rfl rfl)
theorem dX0_digest_74 : decode cX0_digest 74 = .ok (.aload_n 0, 1) := dk_42 (dk_at dksX0_digest_3 4 rfl rfl)
theorem dX0_digest_75 : decode cX0_digest 75 = .ok (.getfield 37, 3) := dk_180 0 37 (dk_at dksX0_digest_3 5 rfl rfl)
theorem dX0_digest_78 : decode cX0_digest 78 = .ok (.iload_n 2, 1) := dk_28 (dk_at dksX0_digest_3 8 rfl rfl)
theorem dX0_digest_79 : decode cX0_digest 79 = .ok (.iaload, 1) := dk_46 (dk_at dksX0_digest_3 9 rfl rfl)
theorem dX0_digest_80 : decode cX0_digest 80 = .ok (.invokevirtual 546, 3) := dk_182 2 34 (dk_at dksX0_digest_3 10 rfl rfl)
theorem dX0_digest_83 : decode cX0_digest 83 = .ok (.iinc 2 1, 3) := dk_132 2 1 (dk_at dksX0_digest_3 13 rfl rfl)
theorem dX0_digest_86 : decode cX0_digest 86 = .ok (.goto (-25), 3) := dk_167 255 231 (dk_at dksX0_digest_3 16 rfl rfl)
theorem dX0_digest_89 : decode cX0_digest 89 = .ok (.aload_n 0, 1) := dk_42 (dk_at dksX0_digest_3 19 rfl rfl)
theorem dX0_digest_90 : decode cX0_digest 90 = .ok (.iconst 0, 1) := dk_3 (dk_at dksX0_digest_3 20 rfl rfl)
theorem dX0_digest_91 : decode cX0_digest 91 = .ok (.invokevirtual 546, 3) := dk_182 2 34 (dk_at dksX0_digest_3 21 rfl rfl)
theorem dX0_digest_94 : decode cX0_digest 94 = .ok (.iinc 1 1, 3) := dk_132 1 1 (dk_at dksX0_digest_4 0 rfl rfl)
theorem dX0_digest_97 : decode cX0_digest 97 = .ok (.goto (-51), 3) := dk_167 255 205 (dk_at dksX0_digest_4 3 rfl rfl)
theorem dX0_digest_100 : decode cX0_digest 100 = .ok (.iconst 0, 1) := dk_3 (dk_at dksX0_digest_4 6 rfl rfl)
theorem dX0_digest_101 : decode cX0_digest 101 = .ok (.istore_n 1, 1) := dk_60 (dk_at dksX0_digest_4 7 rfl rfl)
theorem dX0_digest_102 : decode cX0_digest 102 = .ok (.iload_n 1, 1) := dk_27 (dk_at dksX0_digest_4 8 rfl rfl)
theorem dX0_digest_103 : decode cX0_digest 103 = .ok (.aload_n 0, 1) := dk_42 (dk_at dksX0_digest_4 9 rfl rfl)
theorem dX0_digest_104 : decode cX0_digest 104 = .ok (.getfield 324, 3) := dk_180 1 68 (dk_at dksX0_digest_4 10 rfl rfl)
theorem dX0_digest_107 : decode cX0_digest 107 = .ok (.if_icmp .ge 19, 3) := dk_162 0 19 (dk_at dksX0_digest_4 13 rfl rfl)
theorem dX0_digest_110 : decode cX0_digest 110 = .ok (.aload_n 0, 1) := dk_42 (dk_at dksX0_digest_4 16 rfl rfl)
theorem dX0_digest_111 : decode cX0_digest 111 = .ok (.aload_n 0, 1) := dk_42 (dk_at dksX0_digest_4 17 rfl rfl)
theorem dX0_digest_112 : decode cX0_digest 112 = .ok (.getfield 68, 3) := dk_180 0 68 (dk_at dksX0_digest_4 18 rfl rfl)
theorem dX0_digest_115 : decode cX0_digest 115 = .ok (.iload_n 1, 1) := dk_27 (dk_at dksX0_digest_4 21 rfl rfl)
theorem dX0_digest_116 : decode cX0_digest 116 = .ok (.iaload, 1) := dk_46 (dk_at dksX0_digest_4 22 rfl rfl)
theorem dX0_digest_117 : decode cX0_digest 117 = .ok (.invokevirtual 546, 3) := dk_182 2 34 (dk_at dksX0_digest_5 0 rfl rfl)
theorem dX0_digest_120 : decode cX0_digest 120 = .ok (.iinc 1 1, 3) := dk_132 1 1 (dk_at dksX0_digest_5 3 rfl rfl)
theorem dX0_digest_123 : decode cX0_digest 123 = .ok (.goto (-21), 3) := dk_167 255 235 (dk_at dksX0_digest_5 6 rfl rfl)
theorem dX0_digest_126 : decode cX0_digest 126 = .ok (.aload_n 0, 1) := dk_42 (dk_at dksX0_digest_5 9 rfl rfl)
theorem dX0_digest_127 : decode cX0_digest 127 = .ok (.iconst 0, 1) := dk_3 (dk_at dksX0_digest_5 10 rfl rfl)
theorem dX0_digest_128 : decode cX0_digest 128 = .ok (.invokevirtual 546, 3) := dk_182 2 34 (dk_at dksX0_digest_5 11 rfl rfl)
theorem dX0_digest_131 : decode cX0_digest 131 = .ok (.aload_n 0, 1) := dk_42 (dk_at dksX0_digest_5 14 rfl rfl)
theorem dX0_digest_132 : decode cX0_digest 132 = .ok (.getfield 17, 3) := dk_180 0 17 (dk_at dksX0_digest_5 15 rfl rfl)
theorem dX0_digest_135 : decode cX0_digest 135 = .ok (.astore_n 1, 1) := dk_76 (dk_at dksX0_digest_5 18 rfl rfl)
theorem dX0_digest_136 : decode cX0_digest 136 = .ok (.aload_n 1, 1) := dk_43 (dk_at dksX0_digest_5 19 rfl rfl)
theorem dX0_digest_137 : decode cX0_digest 137 = .ok (.arraylength, 1) := dk_190 (dk_at dksX0_digest_5 20 rfl rfl)
theorem dX0_digest_138 : decode cX0_digest 138 = .ok (.istore_n 2, 1) := dk_61 (dk_at dksX0_digest_5 21 rfl rfl)
theorem dX0_digest_139 : decode cX0_digest 139 = .ok (.iconst 0, 1) := dk_3 (dk_at dksX0_digest_5 22 rfl rfl)
theorem dX0_digest_140 : decode cX0_digest 140 = .ok (.istore_n 3, 1) := dk_62 (dk_at dksX0_digest_5 23 rfl rfl)
theorem dX0_digest_141 : decode cX0_digest 141 = .ok (.iload_n 3, 1) := dk_29 (dk_at dksX0_digest_6 0 rfl rfl)
theorem dX0_digest_142 : decode cX0_digest 142 = .ok (.iload_n 2, 1) := dk_28 (dk_at dksX0_digest_6 1 rfl rfl)
theorem dX0_digest_143 : decode cX0_digest 143 = .ok (.if_icmp .ge 61, 3) := dk_162 0 61 (dk_at dksX0_digest_6 2 rfl rfl)
theorem dX0_digest_146 : decode cX0_digest 146 = .ok (.aload_n 1, 1) := dk_43 (dk_at dksX0_digest_6 5 rfl rfl)
theorem dX0_digest_147 : decode cX0_digest 147 = .ok (.iload_n 3, 1) := dk_29 (dk_at dksX0_digest_6 6 rfl rfl)
theorem dX0_digest_148 : decode cX0_digest 148 = .ok (.aaload, 1) := dk_50 (dk_at dksX0_digest_6 7 rfl rfl)
theorem dX0_digest_149 : decode cX0_digest 149 = .ok (.astore 4, 2) := dk_58 4 (dk_at dksX0_digest_6 8 rfl rfl)
theorem dX0_digest_151 : decode cX0_digest 151 = .ok (.aload_n 0, 1) := dk_42 (dk_at dksX0_digest_6 10 rfl rfl)
theorem dX0_digest_152 : decode cX0_digest 152 = .ok (.aload 4, 2) := dk_25 4 (dk_at dksX0_digest_6 11 rfl rfl)
theorem dX0_digest_154 : decode cX0_digest 154 = .ok (.ifnonnull 7, 3) := dk_199 0 7 (dk_at dksX0_digest_6 13 rfl rfl)
theorem dX0_digest_157 : decode cX0_digest 157 = .ok (.iconst (-1), 1) := dk_2 (dk_at dksX0_digest_6 16 rfl rfl)
theorem dX0_digest_158 : decode cX0_digest 158 = .ok (.goto 6, 3) := dk_167 0 6 (dk_at dksX0_digest_6 17 rfl rfl)
theorem dX0_digest_161 : decode cX0_digest 161 = .ok (.aload 4, 2) := dk_25 4 (dk_at dksX0_digest_6 20 rfl rfl)
theorem dX0_digest_163 : decode cX0_digest 163 = .ok (.arraylength, 1) := dk_190 (dk_at dksX0_digest_6 22 rfl rfl)
theorem dX0_digest_164 : decode cX0_digest 164 = .ok (.invokevirtual 546, 3) := dk_182 2 34 (dk_at dksX0_digest_7 0 rfl rfl)
theorem dX0_digest_167 : decode cX0_digest 167 = .ok (.iconst 0, 1) := dk_3 (dk_at dksX0_digest_7 3 rfl rfl)
theorem dX0_digest_168 : decode cX0_digest 168 = .ok (.istore 5, 2) := dk_54 5 (dk_at dksX0_digest_7 4 rfl rfl)
theorem dX0_digest_170 : decode cX0_digest 170 = .ok (.aload 4, 2) := dk_25 4 (dk_at dksX0_digest_7 6 rfl rfl)
theorem dX0_digest_172 : decode cX0_digest 172 = .ok (.ifnull 26, 3) := dk_198 0 26 (dk_at dksX0_digest_7 8 rfl rfl)
theorem dX0_digest_175 : decode cX0_digest 175 = .ok (.iload 5, 2) := dk_21 5 (dk_at dksX0_digest_7 11 rfl rfl)
theorem dX0_digest_177 : decode cX0_digest 177 = .ok (.aload 4, 2) := dk_25 4 (dk_at dksX0_digest_7 13 rfl rfl)
theorem dX0_digest_179 : decode cX0_digest 179 = .ok (.arraylength, 1) := dk_190 (dk_at dksX0_digest_7 15 rfl rfl)
theorem dX0_digest_180 : decode cX0_digest 180 = .ok (.if_icmp .ge 18, 3) := dk_162 0 18 (dk_at dksX0_digest_7 16 rfl rfl)
theorem dX0_digest_183 : decode cX0_digest 183 = .ok (.aload_n 0, 1) := dk_42 (dk_at dksX0_digest_7 19 rfl rfl)
theorem dX0_digest_184 : decode cX0_digest 184 = .ok (.aload 4, 2) := dk_25 4 (dk_at dksX0_digest_7 20 rfl rfl)
theorem dX0_digest_186 : decode cX0_digest 186 = .ok (.iload 5, 2) := dk_21 5 (dk_at dksX0_digest_7 22 rfl rfl)
theorem dX0_digest_188 : decode cX0_digest 188 = .ok (.iaload, 1) := dk_46 (dk_at dksX0_digest_8 0 rfl rfl)
theorem dX0_digest_189 : decode cX0_digest 189 = .ok (.invokevirtual 546, 3) := dk_182 2 34 (dk_at dksX0_digest_8 1 rfl rfl)
theorem dX0_digest_192 : decode cX0_digest 192 = .ok (.iinc 5 1, 3) := dk_132 5 1 (dk_at dksX0_digest_8 4 rfl rfl)
theorem dX0_digest_195 : decode cX0_digest 195 = .ok (.goto (-25), 3) := dk_167 255 231 (dk_at dksX0_digest_8 7 rfl rfl)
theorem dX0_digest_198 : decode cX0_digest 198 = .ok (.iinc 3 1, 3) := dk_132 3 1 (dk_at dksX0_digest_8 10 rfl rfl)
theorem dX0_digest_201 : decode cX0_digest 201 = .ok (.goto (-60), 3) := dk_167 255 196 (dk_at dksX0_digest_8 13 rfl rfl)
theorem dX0_digest_204 : decode cX0_digest 204 = .ok (.aload_n 0, 1) := dk_42 (dk_at dksX0_digest_8 16 rfl rfl)
theorem dX0_digest_205 : decode cX0_digest 205 = .ok (.aload_n 0, 1) := dk_42 (dk_at dksX0_digest_8 17 rfl rfl)
theorem dX0_digest_206 : decode cX0_digest 206 = .ok (.getfield 344, 3) := dk_180 1 88 (dk_at dksX0_digest_8 18 rfl rfl)
theorem dX0_digest_209 : decode cX0_digest 209 = .ok (.invokevirtual 546, 3) := dk_182 2 34 (dk_at dksX0_digest_8 21 rfl rfl)
theorem dX0_digest_212 : decode cX0_digest 212 = .ok (.aload_n 0, 1) := dk_42 (dk_at dksX0_digest_9 0 rfl rfl)
theorem dX0_digest_213 : decode cX0_digest 213 = .ok (.aload_n 0, 1) := dk_42 (dk_at dksX0_digest_9 1 rfl rfl)
theorem dX0_digest_214 : decode cX0_digest 214 = .ok (.getfield 349, 3) := dk_180 1 93 (dk_at dksX0_digest_9 2 rfl rfl)
theorem dX0_digest_217 : decode cX0_digest 217 = .ok (.invokevirtual 546, 3) := dk_182 2 34 (dk_at dksX0_digest_9 5 rfl rfl)
theorem dX0_digest_220 : decode cX0_digest 220 = .ok (.iconst 0, 1) := dk_3 (dk_at dksX0_digest_9 8 rfl rfl)
theorem dX0_digest_221 : decode cX0_digest 221 = .ok (.istore_n 1, 1) := dk_60 (dk_at dksX0_digest_9 9 rfl rfl)
theorem dX0_digest_222 : decode cX0_digest 222 = .ok (.iload_n 1, 1) := dk_27 (dk_at dksX0_digest_9 10 rfl rfl)
theorem dX0_digest_223 : decode cX0_digest 223 = .ok (.aload_n 0, 1) := dk_42 (dk_at dksX0_digest_9 11 rfl rfl)
theorem dX0_digest_224 : decode cX0_digest 224 = .ok (.getfield 100, 3) := dk_180 0 100 (dk_at dksX0_digest_9 12 rfl rfl)
theorem dX0_digest_227 : decode cX0_digest 227 = .ok (.if_icmp .ge 30, 3) := dk_162 0 30 (dk_at dksX0_digest_9 15 rfl rfl)
theorem dX0_digest_230 : decode cX0_digest 230 = .ok (.aload_n 0, 1) := dk_42 (dk_at dksX0_digest_9 18 rfl rfl)
theorem dX0_digest_231 : decode cX0_digest 231 = .ok (.aload_n 0, 1) := dk_42 (dk_at dksX0_digest_9 19 rfl rfl)
theorem dX0_digest_232 : decode cX0_digest 232 = .ok (.getfield 11, 3) := dk_180 0 11 (dk_at dksX0_digest_9 20 rfl rfl)
theorem dX0_digest_235 : decode cX0_digest 235 = .ok (.iload_n 1, 1) := dk_27 (dk_at dksX0_digest_9 23 rfl rfl)
theorem dX0_digest_236 : decode cX0_digest 236 = .ok (.aaload, 1) := dk_50 (dk_at dksX0_digest_10 0 rfl rfl)
theorem dX0_digest_237 : decode cX0_digest 237 = .ok (.getfield 511, 3) := dk_180 1 255 (dk_at dksX0_digest_10 1 rfl rfl)
theorem dX0_digest_240 : decode cX0_digest 240 = .ok (.ifCond .eq 7, 3) := dk_153 0 7 (dk_at dksX0_digest_10 4 rfl rfl)
theorem dX0_digest_243 : decode cX0_digest 243 = .ok (.iconst 1, 1) := dk_4 (dk_at dksX0_digest_10 7 rfl rfl)
theorem dX0_digest_244 : decode cX0_digest 244 = .ok (.goto 4, 3) := dk_167 0 4 (dk_at dksX0_digest_10 8 rfl rfl)
theorem dX0_digest_247 : decode cX0_digest 247 = .ok (.iconst 0, 1) := dk_3 (dk_at dksX0_digest_10 11 rfl rfl)
theorem dX0_digest_248 : decode cX0_digest 248 = .ok (.invokevirtual 546, 3) := dk_182 2 34 (dk_at dksX0_digest_10 12 rfl rfl)
theorem dX0_digest_251 : decode cX0_digest 251 = .ok (.iinc 1 1, 3) := dk_132 1 1 (dk_at dksX0_digest_10 15 rfl rfl)
theorem dX0_digest_254 : decode cX0_digest 254 = .ok (.goto (-32), 3) := dk_167 255 224 (dk_at dksX0_digest_10 18 rfl rfl)
theorem dX0_digest_257 : decode cX0_digest 257 = .ok (.aload_n 0, 1) := dk_42 (dk_at dksX0_digest_10 21 rfl rfl)
theorem dX0_digest_258 : decode cX0_digest 258 = .ok (.aload_n 0, 1) := dk_42 (dk_at dksX0_digest_10 22 rfl rfl)
theorem dX0_digest_259 : decode cX0_digest 259 = .ok (.getfield 428, 3) := dk_180 1 172 (dk_at dksX0_digest_11 0 rfl rfl)
theorem dX0_digest_262 : decode cX0_digest 262 = .ok (.invokevirtual 546, 3) := dk_182 2 34 (dk_at dksX0_digest_11 3 rfl rfl)
theorem dX0_digest_265 : decode cX0_digest 265 = .ok (.aload_n 0, 1) := dk_42 (dk_at dksX0_digest_11 6 rfl rfl)
theorem dX0_digest_266 : decode cX0_digest 266 = .ok (.getfield 540, 3) := dk_180 2 28 (dk_at dksX0_digest_11 7 rfl rfl)
theorem dX0_digest_269 : decode cX0_digest 269 = .ok (.lreturn, 1) := dk_173 (dk_at dksX0_digest_11 10 rfl rfl)
abbrev cX0_sum : ByteArray := prog_1_method_90_code
def yX0_sum : MethodName := ⟨RX0, "sum", "(I)V"⟩
def dkwX0_sum_0 : List UInt8 := [42, 20, 2, 26, 42, 180, 2, 28, 105, 27, 133, 97, 181, 2, 28, 177]
abbrev dktX0_sum_0 : List UInt8 := dkwX0_sum_0 ++ []
theorem dksX0_sum_0 : cX0_sum.data.toList.drop 0 = dktX0_sum_0 := by decide +kernel
theorem dX0_sum_0 : decode cX0_sum 0 = .ok (.aload_n 0, 1) := dk_42 (dk_at dksX0_sum_0 0 rfl rfl)
theorem dX0_sum_1 : decode cX0_sum 1 = .ok (.ldc2_w 538, 3) := dk_20 2 26 (dk_at dksX0_sum_0 1 rfl rfl)
theorem dX0_sum_4 : decode cX0_sum 4 = .ok (.aload_n 0, 1) := dk_42 (dk_at dksX0_sum_0 4 rfl rfl)
theorem dX0_sum_5 : decode cX0_sum 5 = .ok (.getfield 540, 3) := dk_180 2 28 (dk_at dksX0_sum_0 5 rfl rfl)
theorem dX0_sum_8 : decode cX0_sum 8 = .ok (.lmul, 1) := dk_105 (dk_at dksX0_sum_0 8 rfl rfl)
theorem dX0_sum_9 : decode cX0_sum 9 = .ok (.iload_n 1, 1) := dk_27 (dk_at dksX0_sum_0 9 rfl rfl)
theorem dX0_sum_10 : decode cX0_sum 10 = .ok (.i2l, 1) := dk_133 (dk_at dksX0_sum_0 10 rfl rfl)
theorem dX0_sum_11 : decode cX0_sum 11 = .ok (.ladd, 1) := dk_97 (dk_at dksX0_sum_0 11 rfl rfl)
theorem dX0_sum_12 : decode cX0_sum 12 = .ok (.putfield 540, 3) := dk_181 2 28 (dk_at dksX0_sum_0 12 rfl rfl)
theorem dX0_sum_15 : decode cX0_sum 15 = .ok (.return_, 1) := dk_177 (dk_at dksX0_sum_0 15 rfl rfl)
abbrev cX0_status : ByteArray := prog_1_method_92_code
def yX0_status : MethodName := ⟨RX0, "status", "()I"⟩
theorem dX0_status_0 : decode cX0_status 0 = .ok (.aload_n 0, 1) := by decide +kernel
theorem dX0_status_1 : decode cX0_status 1 = .ok (.getfield 97, 3) := by decide +kernel
theorem dX0_status_4 : decode cX0_status 4 = .ok (.ireturn, 1) := by decide +kernel
abbrev cX0_about : ByteArray := prog_1_method_93_code
def yX0_about : MethodName := ⟨RX0, "about", "(I)I"⟩
def dkwX0_about_4 : List UInt8 := [180, 0, 152, 172, 42, 180, 0, 162, 172, 42, 17, 252, 23, 182, 0, 124, 172]
abbrev dktX0_about_4 : List UInt8 := dkwX0_about_4 ++ []
def dkwX0_about_3 : List UInt8 := [172, 42, 180, 1, 68, 172, 42, 180, 1, 172, 172, 42, 180, 1, 224, 172, 42, 182, 2, 2, 172, 42]
abbrev dktX0_about_3 : List UInt8 := dkwX0_about_3 ++ dktX0_about_4
def dkwX0_about_2 : List UInt8 := [42, 180, 0, 100, 172, 42, 180, 0, 199, 172, 42, 180, 0, 202, 172, 42, 180, 0, 40, 42, 180, 0, 202, 46]
abbrev dktX0_about_2 : List UInt8 := dkwX0_about_2 ++ dktX0_about_3
def dkwX0_about_1 : List UInt8 := [170, 0, 0, 0, 0, 0, 110, 0, 0, 0, 0, 0, 0, 0, 9, 0, 0, 0, 55, 0, 0, 0, 60, 0, 0, 0, 65, 0, 0, 0, 70, 0, 0, 0, 80, 0, 0, 0, 85, 0, 0, 0, 90, 0, 0, 0, 95, 0, 0, 0, 100, 0, 0, 0, 105]
abbrev dktX0_about_1 : List UInt8 := dkwX0_about_1 ++ dktX0_about_2
def dkwX0_about_0 : List UInt8 := [27]
abbrev dktX0_about_0 : List UInt8 := dkwX0_about_0 ++ dktX0_about_1
theorem dksX0_about_0 : cX0_about.data.toList.drop 0 = dktX0_about_0 := by decide +kernel
theorem dksX0_about_1 : cX0_about.data.toList.drop 1 = dktX0_about_1 := dk_seg dksX0_about_0 1 rfl rfl
theorem dksX0_about_2 : cX0_about.data.toList.drop 56 = dktX0_about_2 := dk_seg dksX0_about_1 55 rfl rfl
theorem dksX0_about_3 : cX0_about.data.toList.drop 80 = dktX0_about_3 := dk_seg dksX0_about_2 24 rfl rfl
theorem dksX0_about_4 : cX0_about.data.toList.drop 102 = dktX0_about_4 := dk_seg dksX0_about_3 22 rfl rfl
theorem dX0_about_0 : decode cX0_about 0 = .ok (.iload_n 1, 1) := dk_27 (dk_at dksX0_about_0 0 rfl rfl)
theorem dX0_about_1 : decode cX0_about 1 = .ok (.tableswitch 110 0 9 #[55, 60, 65, 70, 80, 85, 90, 95, 100, 105], 55) := by decide +kernel
theorem dX0_about_56 : decode cX0_about 56 = .ok (.aload_n 0, 1) := dk_42 (dk_at dksX0_about_2 0 rfl rfl)
theorem dX0_about_57 : decode cX0_about 57 = .ok (.getfield 100, 3) := dk_180 0 100 (dk_at dksX0_about_2 1 rfl rfl)
theorem dX0_about_60 : decode cX0_about 60 = .ok (.ireturn, 1) := dk_172 (dk_at dksX0_about_2 4 rfl rfl)
theorem dX0_about_61 : decode cX0_about 61 = .ok (.aload_n 0, 1) := dk_42 (dk_at dksX0_about_2 5 rfl rfl)
theorem dX0_about_62 : decode cX0_about 62 = .ok (.getfield 199, 3) := dk_180 0 199 (dk_at dksX0_about_2 6 rfl rfl)
theorem dX0_about_65 : decode cX0_about 65 = .ok (.ireturn, 1) := dk_172 (dk_at dksX0_about_2 9 rfl rfl)
theorem dX0_about_66 : decode cX0_about 66 = .ok (.aload_n 0, 1) := dk_42 (dk_at dksX0_about_2 10 rfl rfl)
theorem dX0_about_67 : decode cX0_about 67 = .ok (.getfield 202, 3) := dk_180 0 202 (dk_at dksX0_about_2 11 rfl rfl)
theorem dX0_about_70 : decode cX0_about 70 = .ok (.ireturn, 1) := dk_172 (dk_at dksX0_about_2 14 rfl rfl)
theorem dX0_about_71 : decode cX0_about 71 = .ok (.aload_n 0, 1) := dk_42 (dk_at dksX0_about_2 15 rfl rfl)
theorem dX0_about_72 : decode cX0_about 72 = .ok (.getfield 40, 3) := dk_180 0 40 (dk_at dksX0_about_2 16 rfl rfl)
theorem dX0_about_75 : decode cX0_about 75 = .ok (.aload_n 0, 1) := dk_42 (dk_at dksX0_about_2 19 rfl rfl)
theorem dX0_about_76 : decode cX0_about 76 = .ok (.getfield 202, 3) := dk_180 0 202 (dk_at dksX0_about_2 20 rfl rfl)
theorem dX0_about_79 : decode cX0_about 79 = .ok (.iaload, 1) := dk_46 (dk_at dksX0_about_2 23 rfl rfl)
theorem dX0_about_80 : decode cX0_about 80 = .ok (.ireturn, 1) := dk_172 (dk_at dksX0_about_3 0 rfl rfl)
theorem dX0_about_81 : decode cX0_about 81 = .ok (.aload_n 0, 1) := dk_42 (dk_at dksX0_about_3 1 rfl rfl)
theorem dX0_about_82 : decode cX0_about 82 = .ok (.getfield 324, 3) := dk_180 1 68 (dk_at dksX0_about_3 2 rfl rfl)
theorem dX0_about_85 : decode cX0_about 85 = .ok (.ireturn, 1) := dk_172 (dk_at dksX0_about_3 5 rfl rfl)
theorem dX0_about_86 : decode cX0_about 86 = .ok (.aload_n 0, 1) := dk_42 (dk_at dksX0_about_3 6 rfl rfl)
theorem dX0_about_87 : decode cX0_about 87 = .ok (.getfield 428, 3) := dk_180 1 172 (dk_at dksX0_about_3 7 rfl rfl)
theorem dX0_about_90 : decode cX0_about 90 = .ok (.ireturn, 1) := dk_172 (dk_at dksX0_about_3 10 rfl rfl)
theorem dX0_about_91 : decode cX0_about 91 = .ok (.aload_n 0, 1) := dk_42 (dk_at dksX0_about_3 11 rfl rfl)
theorem dX0_about_92 : decode cX0_about 92 = .ok (.getfield 480, 3) := dk_180 1 224 (dk_at dksX0_about_3 12 rfl rfl)
theorem dX0_about_95 : decode cX0_about 95 = .ok (.ireturn, 1) := dk_172 (dk_at dksX0_about_3 15 rfl rfl)
theorem dX0_about_96 : decode cX0_about 96 = .ok (.aload_n 0, 1) := dk_42 (dk_at dksX0_about_3 16 rfl rfl)
theorem dX0_about_97 : decode cX0_about 97 = .ok (.invokevirtual 514, 3) := dk_182 2 2 (dk_at dksX0_about_3 17 rfl rfl)
theorem dX0_about_100 : decode cX0_about 100 = .ok (.ireturn, 1) := dk_172 (dk_at dksX0_about_3 20 rfl rfl)
theorem dX0_about_101 : decode cX0_about 101 = .ok (.aload_n 0, 1) := dk_42 (dk_at dksX0_about_3 21 rfl rfl)
theorem dX0_about_102 : decode cX0_about 102 = .ok (.getfield 152, 3) := dk_180 0 152 (dk_at dksX0_about_4 0 rfl rfl)
theorem dX0_about_105 : decode cX0_about 105 = .ok (.ireturn, 1) := dk_172 (dk_at dksX0_about_4 3 rfl rfl)
theorem dX0_about_106 : decode cX0_about 106 = .ok (.aload_n 0, 1) := dk_42 (dk_at dksX0_about_4 4 rfl rfl)
theorem dX0_about_107 : decode cX0_about 107 = .ok (.getfield 162, 3) := dk_180 0 162 (dk_at dksX0_about_4 5 rfl rfl)
theorem dX0_about_110 : decode cX0_about 110 = .ok (.ireturn, 1) := dk_172 (dk_at dksX0_about_4 8 rfl rfl)
theorem dX0_about_111 : decode cX0_about 111 = .ok (.aload_n 0, 1) := dk_42 (dk_at dksX0_about_4 9 rfl rfl)
theorem dX0_about_112 : decode cX0_about 112 = .ok (.sipush (-1001), 3) := dk_17 252 23 (dk_at dksX0_about_4 10 rfl rfl)
theorem dX0_about_115 : decode cX0_about 115 = .ok (.invokevirtual 124, 3) := dk_182 0 124 (dk_at dksX0_about_4 13 rfl rfl)
theorem dX0_about_118 : decode cX0_about 118 = .ok (.ireturn, 1) := dk_172 (dk_at dksX0_about_4 16 rfl rfl)
theorem q157 : (Jvm.Cond.initialized "ClauseCourt") ∈ lw_all := lw_g (lw_at lw_m1 1 rfl) rfl
theorem q188 : (Jvm.Cond.instantiable "ClauseCourt" (42 : Nat)) ∈ lw_all := lw_g (lw_at lw_m1 32 rfl) rfl
theorem q190 : (Jvm.Cond.instanceMethod ({ cls := "ClauseCourt", name := "<init>", desc := "()V" } : Jvm.MethodName)) ∈ lw_all := lw_g (lw_at lw_m1 34 rfl) rfl
theorem q191 : (Jvm.Cond.code ({ cls := "ClauseCourt", name := "<init>", desc := "()V" } : Jvm.MethodName) prog_1_method_1_code (1 : Nat) (Option.none : Option Jvm.ClassFile.FieldType)) ∈ lw_all := lw_g (lw_at lw_m1 35 rfl) rfl
theorem q192 : (Jvm.Cond.methodLink "ClauseCourt" (3 : Nat) ({ cls := "java/lang/Object", name := "<init>", desc := "()V" } : Jvm.MethodName)) ∈ lw_all := lw_g (lw_at lw_m1 36 rfl) rfl
theorem q195 : (Jvm.Cond.classLink "ClauseCourt" (9 : Nat) "ClauseCourt$Name") ∈ lw_all := lw_g (lw_at lw_m1 39 rfl) rfl
theorem q197 : (Jvm.Cond.classLink "ClauseCourt" (15 : Nat) "[I") ∈ lw_all := lw_g (lw_at lw_m1 41 rfl) rfl
theorem q199 : (Jvm.Cond.classLink "ClauseCourt" (43 : Nat) "ClauseCourt$Rule") ∈ lw_all := lw_g (lw_at lw_m1 43 rfl) rfl
theorem q201 : (Jvm.Cond.classLink "ClauseCourt" (49 : Nat) "ClauseCourt$Engine") ∈ lw_all := lw_g (lw_at lw_m1 45 rfl) rfl
theorem q203 : (Jvm.Cond.methodLinkNest "ClauseCourt" (51 : Nat) ({ cls := "ClauseCourt$Engine", name := "<init>", desc := "(LClauseCourt;)V" } : Jvm.MethodName) "ClauseCourt") ∈ lw_tbl := lw_at lw_m1 47 rfl
theorem q208 : (Jvm.Cond.fieldLinkNest "ClauseCourt" (436 : Nat) "ClauseCourt$Engine" "from" "[I" "ClauseCourt") ∈ lw_tbl := lw_at lw_m1 52 rfl
theorem q210 : (Jvm.Cond.fieldLinkNest "ClauseCourt" (439 : Nat) "ClauseCourt$Engine" "size" "[I" "ClauseCourt") ∈ lw_tbl := lw_at lw_m1 54 rfl
theorem q216 : (Jvm.Cond.fieldLinkNest "ClauseCourt" (433 : Nat) "ClauseCourt$Engine" "cell" "[I" "ClauseCourt") ∈ lw_tbl := lw_at lw_m1 60 rfl
theorem q222 : (Jvm.Cond.fieldLinkNest "ClauseCourt" (335 : Nat) "ClauseCourt$Engine" "all" "I" "ClauseCourt") ∈ lw_tbl := lw_at lw_m1 66 rfl
theorem q224 : (Jvm.Cond.fieldLinkNest "ClauseCourt" (532 : Nat) "ClauseCourt$Engine" "value" "[I" "ClauseCourt") ∈ lw_tbl := lw_at lw_m1 68 rfl
theorem q227 : (Jvm.Cond.fieldLinkNest "ClauseCourt" (535 : Nat) "ClauseCourt$Engine" "reason" "[I" "ClauseCourt") ∈ lw_tbl := lw_at lw_m1 71 rfl
theorem q230 : (Jvm.Cond.fieldLinkNest "ClauseCourt" (338 : Nat) "ClauseCourt$Engine" "weight" "[J" "ClauseCourt") ∈ lw_tbl := lw_at lw_m1 74 rfl
theorem q233 : (Jvm.Cond.fieldLinkNest "ClauseCourt" (529 : Nat) "ClauseCourt$Engine" "trail" "[I" "ClauseCourt") ∈ lw_tbl := lw_at lw_m1 77 rfl
theorem q235 : (Jvm.Cond.fieldLinkNest "ClauseCourt" (486 : Nat) "ClauseCourt$Engine" "levelAt" "[I" "ClauseCourt") ∈ lw_tbl := lw_at lw_m1 79 rfl
theorem q237 : (Jvm.Cond.fieldLinkNest "ClauseCourt" (526 : Nat) "ClauseCourt$Engine" "trailed" "I" "ClauseCourt") ∈ lw_tbl := lw_at lw_m1 81 rfl
theorem q239 : (Jvm.Cond.fieldLinkNest "ClauseCourt" (483 : Nat) "ClauseCourt$Engine" "now" "I" "ClauseCourt") ∈ lw_tbl := lw_at lw_m1 83 rfl
theorem q244 : (Jvm.Cond.fieldLinkNest "ClauseCourt" (412 : Nat) "ClauseCourt$Engine" "record" "I" "ClauseCourt") ∈ lw_tbl := lw_at lw_m1 88 rfl
theorem q247 : (Jvm.Cond.fieldLinkNest "ClauseCourt" (378 : Nat) "ClauseCourt$Engine" "assumed" "[I" "ClauseCourt") ∈ lw_tbl := lw_at lw_m1 91 rfl
theorem q249 : (Jvm.Cond.fieldLinkNest "ClauseCourt" (377 : Nat) "ClauseCourt$Engine" "many" "I" "ClauseCourt") ∈ lw_tbl := lw_at lw_m1 93 rfl
theorem q251 : (Jvm.Cond.fieldLinkNest "ClauseCourt" (388 : Nat) "ClauseCourt$Engine" "said" "I" "ClauseCourt") ∈ lw_tbl := lw_at lw_m1 95 rfl
theorem q253 : (Jvm.Cond.fieldLinkNest "ClauseCourt" (391 : Nat) "ClauseCourt$Engine" "steps" "I" "ClauseCourt") ∈ lw_tbl := lw_at lw_m1 97 rfl
theorem q255 : (Jvm.Cond.fieldLinkNest "ClauseCourt" (467 : Nat) "ClauseCourt$Engine" "left" "I" "ClauseCourt") ∈ lw_tbl := lw_at lw_m1 99 rfl
theorem q257 : (Jvm.Cond.fieldLinkNest "ClauseCourt" (394 : Nat) "ClauseCourt$Engine" "forced" "I" "ClauseCourt") ∈ lw_tbl := lw_at lw_m1 101 rfl
theorem q259 : (Jvm.Cond.fieldLinkNest "ClauseCourt" (397 : Nat) "ClauseCourt$Engine" "decided" "I" "ClauseCourt") ∈ lw_tbl := lw_at lw_m1 103 rfl
theorem q261 : (Jvm.Cond.fieldLinkNest "ClauseCourt" (400 : Nat) "ClauseCourt$Engine" "learnings" "I" "ClauseCourt") ∈ lw_tbl := lw_at lw_m1 105 rfl
theorem q263 : (Jvm.Cond.fieldLinkNest "ClauseCourt" (403 : Nat) "ClauseCourt$Engine" "anew" "I" "ClauseCourt") ∈ lw_tbl := lw_at lw_m1 107 rfl
theorem q265 : (Jvm.Cond.fieldLinkNest "ClauseCourt" (406 : Nat) "ClauseCourt$Engine" "gone" "I" "ClauseCourt") ∈ lw_tbl := lw_at lw_m1 109 rfl
theorem q267 : (Jvm.Cond.fieldLinkNest "ClauseCourt" (409 : Nat) "ClauseCourt$Engine" "there" "I" "ClauseCourt") ∈ lw_tbl := lw_at lw_m1 111 rfl
theorem q269 : (Jvm.Cond.fieldLinkNest "ClauseCourt" (415 : Nat) "ClauseCourt$Engine" "greatest" "I" "ClauseCourt") ∈ lw_tbl := lw_at lw_m1 113 rfl
theorem q273 : (Jvm.Cond.fieldLinkNest "ClauseCourt" (421 : Nat) "ClauseCourt$Engine" "quarrel" "[I" "ClauseCourt") ∈ lw_tbl := lw_at lw_m1 117 rfl
theorem q275 : (Jvm.Cond.fieldLinkNest "ClauseCourt" (418 : Nat) "ClauseCourt$Engine" "isQuarrel" "Z" "ClauseCourt") ∈ lw_tbl := lw_at lw_m1 119 rfl
theorem q277 : (Jvm.Cond.fieldLinkNest "ClauseCourt" (442 : Nat) "ClauseCourt$Engine" "core" "[J" "ClauseCourt") ∈ lw_tbl := lw_at lw_m1 121 rfl
theorem q279 : (Jvm.Cond.fieldLinkNest "ClauseCourt" (458 : Nat) "ClauseCourt$Engine" "coreItem" "[I" "ClauseCourt") ∈ lw_tbl := lw_at lw_m1 123 rfl
theorem q281 : (Jvm.Cond.fieldLinkNest "ClauseCourt" (455 : Nat) "ClauseCourt$Engine" "coreItems" "I" "ClauseCourt") ∈ lw_tbl := lw_at lw_m1 125 rfl
theorem q293 : (Jvm.Cond.fieldLinkNest "ClauseCourt" (366 : Nat) "ClauseCourt$Engine" "found" "[I" "ClauseCourt") ∈ lw_tbl := lw_at lw_m1 137 rfl
theorem q416 : (Jvm.Cond.classLink "ClauseCourt" (61 : Nat) "ClauseCourt$Truth") ∈ lw_all := lw_g (lw_at lw_m2 20 rfl) rfl
theorem q418 : (Jvm.Cond.methodLinkNest "ClauseCourt" (63 : Nat) ({ cls := "ClauseCourt$Truth", name := "<init>", desc := "()V" } : Jvm.MethodName) "ClauseCourt") ∈ lw_tbl := lw_at lw_m2 22 rfl
theorem q423 : (Jvm.Cond.fieldLinkNest "ClauseCourt" (363 : Nat) "ClauseCourt$Truth" "of" "[B" "ClauseCourt") ∈ lw_tbl := lw_at lw_m2 27 rfl
theorem q424 : (Jvm.Cond.fieldLinkNest "ClauseCourt" (359 : Nat) "ClauseCourt$Truth" "names" "I" "ClauseCourt") ∈ lw_tbl := lw_at lw_m2 28 rfl
theorem q425 : (Jvm.Cond.fieldLinkNest "ClauseCourt" (305 : Nat) "ClauseCourt$Truth" "rules" "I" "ClauseCourt") ∈ lw_tbl := lw_at lw_m2 29 rfl
theorem q426 : (Jvm.Cond.fieldLinkNest "ClauseCourt" (301 : Nat) "ClauseCourt$Truth" "isThere" "Z" "ClauseCourt") ∈ lw_tbl := lw_at lw_m2 30 rfl
theorem q436 : (Jvm.Cond.fieldLink "ClauseCourt" (97 : Nat) "ClauseCourt" "status" "I") ∈ lw_all := lw_g (lw_at lw_m2 40 rfl) rfl
theorem q437 : (Jvm.Cond.fieldLink "ClauseCourt" (11 : Nat) "ClauseCourt" "name" "[LClauseCourt$Name;") ∈ lw_all := lw_g (lw_at lw_m2 41 rfl) rfl
theorem q440 : (Jvm.Cond.fieldLink "ClauseCourt" (100 : Nat) "ClauseCourt" "names" "I") ∈ lw_all := lw_g (lw_at lw_m2 44 rfl) rfl
theorem q441 : (Jvm.Cond.fieldLink "ClauseCourt" (106 : Nat) "ClauseCourt" "stamp" "I") ∈ lw_all := lw_g (lw_at lw_m2 45 rfl) rfl
theorem q442 : (Jvm.Cond.fieldLink "ClauseCourt" (17 : Nat) "ClauseCourt" "paper" "[[I") ∈ lw_all := lw_g (lw_at lw_m2 46 rfl) rfl
theorem q443 : (Jvm.Cond.fieldLink "ClauseCourt" (21 : Nat) "ClauseCourt" "tape" "[B") ∈ lw_all := lw_g (lw_at lw_m2 47 rfl) rfl
theorem q444 : (Jvm.Cond.fieldLink "ClauseCourt" (152 : Nat) "ClauseCourt" "typed" "I") ∈ lw_all := lw_g (lw_at lw_m2 48 rfl) rfl
theorem q445 : (Jvm.Cond.fieldLink "ClauseCourt" (25 : Nat) "ClauseCourt" "trace" "[I") ∈ lw_all := lw_g (lw_at lw_m2 49 rfl) rfl
theorem q446 : (Jvm.Cond.fieldLink "ClauseCourt" (155 : Nat) "ClauseCourt" "traced" "I") ∈ lw_all := lw_g (lw_at lw_m2 50 rfl) rfl
theorem q447 : (Jvm.Cond.fieldLink "ClauseCourt" (28 : Nat) "ClauseCourt" "out" "[B") ∈ lw_all := lw_g (lw_at lw_m2 51 rfl) rfl
theorem q448 : (Jvm.Cond.fieldLink "ClauseCourt" (162 : Nat) "ClauseCourt" "written" "I") ∈ lw_all := lw_g (lw_at lw_m2 52 rfl) rfl
theorem q449 : (Jvm.Cond.fieldLink "ClauseCourt" (31 : Nat) "ClauseCourt" "planned" "[I") ∈ lw_all := lw_g (lw_at lw_m2 53 rfl) rfl
theorem q450 : (Jvm.Cond.fieldLink "ClauseCourt" (34 : Nat) "ClauseCourt" "plannedEnd" "[I") ∈ lw_all := lw_g (lw_at lw_m2 54 rfl) rfl
theorem q451 : (Jvm.Cond.fieldLink "ClauseCourt" (178 : Nat) "ClauseCourt" "plannedRows" "I") ∈ lw_all := lw_g (lw_at lw_m2 55 rfl) rfl
theorem q452 : (Jvm.Cond.fieldLink "ClauseCourt" (181 : Nat) "ClauseCourt" "plannedItems" "I") ∈ lw_all := lw_g (lw_at lw_m2 56 rfl) rfl
theorem q453 : (Jvm.Cond.fieldLink "ClauseCourt" (184 : Nat) "ClauseCourt" "plannedNames" "I") ∈ lw_all := lw_g (lw_at lw_m2 57 rfl) rfl
theorem q454 : (Jvm.Cond.fieldLink "ClauseCourt" (37 : Nat) "ClauseCourt" "caseItem" "[I") ∈ lw_all := lw_g (lw_at lw_m2 58 rfl) rfl
theorem q456 : (Jvm.Cond.fieldLink "ClauseCourt" (40 : Nat) "ClauseCourt" "caseFrom" "[I") ∈ lw_all := lw_g (lw_at lw_m2 60 rfl) rfl
theorem q459 : (Jvm.Cond.fieldLink "ClauseCourt" (202 : Nat) "ClauseCourt" "caseRows" "I") ∈ lw_all := lw_g (lw_at lw_m2 63 rfl) rfl
theorem q460 : (Jvm.Cond.fieldLink "ClauseCourt" (45 : Nat) "ClauseCourt" "rule" "[LClauseCourt$Rule;") ∈ lw_all := lw_g (lw_at lw_m2 64 rfl) rfl
theorem q461 : (Jvm.Cond.fieldLink "ClauseCourt" (199 : Nat) "ClauseCourt" "rules" "I") ∈ lw_all := lw_g (lw_at lw_m2 65 rfl) rfl
theorem q462 : (Jvm.Cond.fieldLink "ClauseCourt" (54 : Nat) "ClauseCourt" "main" "LClauseCourt$Engine;") ∈ lw_all := lw_g (lw_at lw_m2 66 rfl) rfl
theorem q463 : (Jvm.Cond.fieldLink "ClauseCourt" (58 : Nat) "ClauseCourt" "side" "LClauseCourt$Engine;") ∈ lw_all := lw_g (lw_at lw_m2 67 rfl) rfl
theorem q464 : (Jvm.Cond.fieldLink "ClauseCourt" (64 : Nat) "ClauseCourt" "truth" "LClauseCourt$Truth;") ∈ lw_all := lw_g (lw_at lw_m2 68 rfl) rfl
theorem q465 : (Jvm.Cond.fieldLink "ClauseCourt" (68 : Nat) "ClauseCourt" "assumed" "[I") ∈ lw_all := lw_g (lw_at lw_m2 69 rfl) rfl
theorem q466 : (Jvm.Cond.fieldLink "ClauseCourt" (324 : Nat) "ClauseCourt" "assumes" "I") ∈ lw_all := lw_g (lw_at lw_m2 70 rfl) rfl
theorem q468 : (Jvm.Cond.fieldLink "ClauseCourt" (344 : Nat) "ClauseCourt" "unit" "I") ∈ lw_all := lw_g (lw_at lw_m2 72 rfl) rfl
theorem q470 : (Jvm.Cond.fieldLink "ClauseCourt" (349 : Nat) "ClauseCourt" "mostLearnt" "I") ∈ lw_all := lw_g (lw_at lw_m2 74 rfl) rfl
theorem q471 : (Jvm.Cond.fieldLink "ClauseCourt" (382 : Nat) "ClauseCourt" "isCut" "Z") ∈ lw_all := lw_g (lw_at lw_m2 75 rfl) rfl
theorem q472 : (Jvm.Cond.fieldLink "ClauseCourt" (374 : Nat) "ClauseCourt" "isNext" "Z") ∈ lw_all := lw_g (lw_at lw_m2 76 rfl) rfl
theorem q473 : (Jvm.Cond.fieldLink "ClauseCourt" (385 : Nat) "ClauseCourt" "cutStamp" "I") ∈ lw_all := lw_g (lw_at lw_m2 77 rfl) rfl
theorem q474 : (Jvm.Cond.fieldLink "ClauseCourt" (71 : Nat) "ClauseCourt" "barItem" "[I") ∈ lw_all := lw_g (lw_at lw_m2 78 rfl) rfl
theorem q475 : (Jvm.Cond.fieldLink "ClauseCourt" (74 : Nat) "ClauseCourt" "barFrom" "[I") ∈ lw_all := lw_g (lw_at lw_m2 79 rfl) rfl
theorem q476 : (Jvm.Cond.fieldLink "ClauseCourt" (428 : Nat) "ClauseCourt" "bars" "I") ∈ lw_all := lw_g (lw_at lw_m2 80 rfl) rfl
theorem q477 : (Jvm.Cond.fieldLink "ClauseCourt" (77 : Nat) "ClauseCourt" "without" "[Z") ∈ lw_all := lw_g (lw_at lw_m2 81 rfl) rfl
theorem q478 : (Jvm.Cond.fieldLink "ClauseCourt" (81 : Nat) "ClauseCourt" "proofItem" "[I") ∈ lw_all := lw_g (lw_at lw_m2 82 rfl) rfl
theorem q479 : (Jvm.Cond.fieldLink "ClauseCourt" (84 : Nat) "ClauseCourt" "proofFrom" "[I") ∈ lw_all := lw_g (lw_at lw_m2 83 rfl) rfl
theorem q480 : (Jvm.Cond.fieldLink "ClauseCourt" (480 : Nat) "ClauseCourt" "proofs" "I") ∈ lw_all := lw_g (lw_at lw_m2 84 rfl) rfl
theorem q481 : (Jvm.Cond.fieldLink "ClauseCourt" (87 : Nat) "ClauseCourt" "refusedAt" "I") ∈ lw_all := lw_g (lw_at lw_m2 85 rfl) rfl
theorem q482 : (Jvm.Cond.fieldLink "ClauseCourt" (91 : Nat) "ClauseCourt" "ownItem" "[I") ∈ lw_all := lw_g (lw_at lw_m2 86 rfl) rfl
theorem q483 : (Jvm.Cond.fieldLink "ClauseCourt" (94 : Nat) "ClauseCourt" "ownFrom" "[I") ∈ lw_all := lw_g (lw_at lw_m2 87 rfl) rfl
theorem q484 : (Jvm.Cond.fieldLink "ClauseCourt" (540 : Nat) "ClauseCourt" "sum" "J") ∈ lw_all := lw_g (lw_at lw_m2 88 rfl) rfl
theorem q485 : (Jvm.Cond.lays "ClauseCourt" "ClauseCourt" "status" "I") ∈ lw_all := lw_g (lw_at lw_m2 89 rfl) rfl
theorem q486 : (Jvm.Cond.soleField "ClauseCourt" "status") ∈ lw_all := lw_g (lw_at lw_m2 90 rfl) rfl
theorem q487 : (Jvm.Cond.laysFinal "ClauseCourt" "ClauseCourt" "name" "[LClauseCourt$Name;") ∈ lw_all := lw_g (lw_at lw_m2 91 rfl) rfl
theorem q488 : (Jvm.Cond.soleField "ClauseCourt" "name") ∈ lw_all := lw_g (lw_at lw_m2 92 rfl) rfl
theorem q489 : (Jvm.Cond.lays "ClauseCourt" "ClauseCourt" "names" "I") ∈ lw_all := lw_g (lw_at lw_m2 93 rfl) rfl
theorem q490 : (Jvm.Cond.soleField "ClauseCourt" "names") ∈ lw_all := lw_g (lw_at lw_m2 94 rfl) rfl
theorem q491 : (Jvm.Cond.lays "ClauseCourt" "ClauseCourt" "stamp" "I") ∈ lw_all := lw_g (lw_at lw_m2 95 rfl) rfl
theorem q492 : (Jvm.Cond.soleField "ClauseCourt" "stamp") ∈ lw_all := lw_g (lw_at lw_m2 96 rfl) rfl
theorem q493 : (Jvm.Cond.laysFinal "ClauseCourt" "ClauseCourt" "paper" "[[I") ∈ lw_all := lw_g (lw_at lw_m2 97 rfl) rfl
theorem q494 : (Jvm.Cond.soleField "ClauseCourt" "paper") ∈ lw_all := lw_g (lw_at lw_m2 98 rfl) rfl
theorem q495 : (Jvm.Cond.laysFinal "ClauseCourt" "ClauseCourt" "tape" "[B") ∈ lw_all := lw_g (lw_at lw_m2 99 rfl) rfl
theorem q496 : (Jvm.Cond.soleField "ClauseCourt" "tape") ∈ lw_all := lw_g (lw_at lw_m2 100 rfl) rfl
theorem q497 : (Jvm.Cond.lays "ClauseCourt" "ClauseCourt" "typed" "I") ∈ lw_all := lw_g (lw_at lw_m2 101 rfl) rfl
theorem q498 : (Jvm.Cond.soleField "ClauseCourt" "typed") ∈ lw_all := lw_g (lw_at lw_m2 102 rfl) rfl
theorem q499 : (Jvm.Cond.laysFinal "ClauseCourt" "ClauseCourt" "trace" "[I") ∈ lw_all := lw_g (lw_at lw_m2 103 rfl) rfl
theorem q500 : (Jvm.Cond.soleField "ClauseCourt" "trace") ∈ lw_all := lw_g (lw_at lw_m2 104 rfl) rfl
theorem q501 : (Jvm.Cond.lays "ClauseCourt" "ClauseCourt" "traced" "I") ∈ lw_all := lw_g (lw_at lw_m2 105 rfl) rfl
theorem q502 : (Jvm.Cond.soleField "ClauseCourt" "traced") ∈ lw_all := lw_g (lw_at lw_m2 106 rfl) rfl
theorem q503 : (Jvm.Cond.laysFinal "ClauseCourt" "ClauseCourt" "out" "[B") ∈ lw_all := lw_g (lw_at lw_m2 107 rfl) rfl
theorem q504 : (Jvm.Cond.soleField "ClauseCourt" "out") ∈ lw_all := lw_g (lw_at lw_m2 108 rfl) rfl
theorem q505 : (Jvm.Cond.lays "ClauseCourt" "ClauseCourt" "written" "I") ∈ lw_all := lw_g (lw_at lw_m2 109 rfl) rfl
theorem q506 : (Jvm.Cond.soleField "ClauseCourt" "written") ∈ lw_all := lw_g (lw_at lw_m2 110 rfl) rfl
theorem q507 : (Jvm.Cond.laysFinal "ClauseCourt" "ClauseCourt" "planned" "[I") ∈ lw_all := lw_g (lw_at lw_m2 111 rfl) rfl
theorem q508 : (Jvm.Cond.soleField "ClauseCourt" "planned") ∈ lw_all := lw_g (lw_at lw_m2 112 rfl) rfl
theorem q509 : (Jvm.Cond.laysFinal "ClauseCourt" "ClauseCourt" "plannedEnd" "[I") ∈ lw_all := lw_g (lw_at lw_m2 113 rfl) rfl
theorem q510 : (Jvm.Cond.soleField "ClauseCourt" "plannedEnd") ∈ lw_all := lw_g (lw_at lw_m2 114 rfl) rfl
theorem q511 : (Jvm.Cond.lays "ClauseCourt" "ClauseCourt" "plannedRows" "I") ∈ lw_all := lw_g (lw_at lw_m2 115 rfl) rfl
theorem q512 : (Jvm.Cond.soleField "ClauseCourt" "plannedRows") ∈ lw_all := lw_g (lw_at lw_m2 116 rfl) rfl
theorem q513 : (Jvm.Cond.lays "ClauseCourt" "ClauseCourt" "plannedItems" "I") ∈ lw_all := lw_g (lw_at lw_m2 117 rfl) rfl
theorem q514 : (Jvm.Cond.soleField "ClauseCourt" "plannedItems") ∈ lw_all := lw_g (lw_at lw_m2 118 rfl) rfl
theorem q515 : (Jvm.Cond.lays "ClauseCourt" "ClauseCourt" "plannedNames" "I") ∈ lw_all := lw_g (lw_at lw_m2 119 rfl) rfl
theorem q516 : (Jvm.Cond.soleField "ClauseCourt" "plannedNames") ∈ lw_all := lw_g (lw_at lw_m2 120 rfl) rfl
theorem q517 : (Jvm.Cond.laysFinal "ClauseCourt" "ClauseCourt" "caseItem" "[I") ∈ lw_all := lw_g (lw_at lw_m2 121 rfl) rfl
theorem q518 : (Jvm.Cond.soleField "ClauseCourt" "caseItem") ∈ lw_all := lw_g (lw_at lw_m2 122 rfl) rfl
theorem q519 : (Jvm.Cond.laysFinal "ClauseCourt" "ClauseCourt" "caseFrom" "[I") ∈ lw_all := lw_g (lw_at lw_m2 123 rfl) rfl
theorem q520 : (Jvm.Cond.soleField "ClauseCourt" "caseFrom") ∈ lw_all := lw_g (lw_at lw_m2 124 rfl) rfl
theorem q521 : (Jvm.Cond.lays "ClauseCourt" "ClauseCourt" "caseRows" "I") ∈ lw_all := lw_g (lw_at lw_m2 125 rfl) rfl
theorem q522 : (Jvm.Cond.soleField "ClauseCourt" "caseRows") ∈ lw_all := lw_g (lw_at lw_m2 126 rfl) rfl
theorem q523 : (Jvm.Cond.laysFinal "ClauseCourt" "ClauseCourt" "rule" "[LClauseCourt$Rule;") ∈ lw_all := lw_g (lw_at lw_m2 127 rfl) rfl
theorem q524 : (Jvm.Cond.soleField "ClauseCourt" "rule") ∈ lw_all := lw_g (lw_at lw_m2 128 rfl) rfl
theorem q525 : (Jvm.Cond.lays "ClauseCourt" "ClauseCourt" "rules" "I") ∈ lw_all := lw_g (lw_at lw_m2 129 rfl) rfl
theorem q526 : (Jvm.Cond.soleField "ClauseCourt" "rules") ∈ lw_all := lw_g (lw_at lw_m2 130 rfl) rfl
theorem q527 : (Jvm.Cond.laysFinal "ClauseCourt" "ClauseCourt" "main" "LClauseCourt$Engine;") ∈ lw_all := lw_g (lw_at lw_m2 131 rfl) rfl
theorem q528 : (Jvm.Cond.soleField "ClauseCourt" "main") ∈ lw_all := lw_g (lw_at lw_m2 132 rfl) rfl
theorem q529 : (Jvm.Cond.laysFinal "ClauseCourt" "ClauseCourt" "side" "LClauseCourt$Engine;") ∈ lw_all := lw_g (lw_at lw_m2 133 rfl) rfl
theorem q530 : (Jvm.Cond.soleField "ClauseCourt" "side") ∈ lw_all := lw_g (lw_at lw_m2 134 rfl) rfl
theorem q531 : (Jvm.Cond.laysFinal "ClauseCourt" "ClauseCourt" "truth" "LClauseCourt$Truth;") ∈ lw_all := lw_g (lw_at lw_m2 135 rfl) rfl
theorem q532 : (Jvm.Cond.soleField "ClauseCourt" "truth") ∈ lw_all := lw_g (lw_at lw_m2 136 rfl) rfl
theorem q533 : (Jvm.Cond.laysFinal "ClauseCourt" "ClauseCourt" "assumed" "[I") ∈ lw_all := lw_g (lw_at lw_m2 137 rfl) rfl
theorem q534 : (Jvm.Cond.soleField "ClauseCourt" "assumed") ∈ lw_all := lw_g (lw_at lw_m2 138 rfl) rfl
theorem q535 : (Jvm.Cond.lays "ClauseCourt" "ClauseCourt" "assumes" "I") ∈ lw_all := lw_g (lw_at lw_m2 139 rfl) rfl
theorem q536 : (Jvm.Cond.soleField "ClauseCourt" "assumes") ∈ lw_all := lw_g (lw_at lw_m2 140 rfl) rfl
theorem q537 : (Jvm.Cond.lays "ClauseCourt" "ClauseCourt" "unit" "I") ∈ lw_all := lw_g (lw_at lw_m2 141 rfl) rfl
theorem q538 : (Jvm.Cond.soleField "ClauseCourt" "unit") ∈ lw_all := lw_g (lw_at lw_m2 142 rfl) rfl
theorem q539 : (Jvm.Cond.lays "ClauseCourt" "ClauseCourt" "mostLearnt" "I") ∈ lw_all := lw_g (lw_at lw_m2 143 rfl) rfl
theorem q540 : (Jvm.Cond.soleField "ClauseCourt" "mostLearnt") ∈ lw_all := lw_g (lw_at lw_m2 144 rfl) rfl
theorem q541 : (Jvm.Cond.lays "ClauseCourt" "ClauseCourt" "isCut" "Z") ∈ lw_all := lw_g (lw_at lw_m2 145 rfl) rfl
theorem q542 : (Jvm.Cond.soleField "ClauseCourt" "isCut") ∈ lw_all := lw_g (lw_at lw_m2 146 rfl) rfl
theorem q543 : (Jvm.Cond.lays "ClauseCourt" "ClauseCourt" "isNext" "Z") ∈ lw_all := lw_g (lw_at lw_m2 147 rfl) rfl
theorem q544 : (Jvm.Cond.soleField "ClauseCourt" "isNext") ∈ lw_all := lw_g (lw_at lw_m2 148 rfl) rfl
theorem q545 : (Jvm.Cond.lays "ClauseCourt" "ClauseCourt" "cutStamp" "I") ∈ lw_all := lw_g (lw_at lw_m2 149 rfl) rfl
theorem q546 : (Jvm.Cond.soleField "ClauseCourt" "cutStamp") ∈ lw_all := lw_g (lw_at lw_m2 150 rfl) rfl
theorem q547 : (Jvm.Cond.laysFinal "ClauseCourt" "ClauseCourt" "barItem" "[I") ∈ lw_all := lw_g (lw_at lw_m2 151 rfl) rfl
theorem q548 : (Jvm.Cond.soleField "ClauseCourt" "barItem") ∈ lw_all := lw_g (lw_at lw_m2 152 rfl) rfl
theorem q549 : (Jvm.Cond.laysFinal "ClauseCourt" "ClauseCourt" "barFrom" "[I") ∈ lw_all := lw_g (lw_at lw_m2 153 rfl) rfl
theorem q550 : (Jvm.Cond.soleField "ClauseCourt" "barFrom") ∈ lw_all := lw_g (lw_at lw_m2 154 rfl) rfl
theorem q551 : (Jvm.Cond.lays "ClauseCourt" "ClauseCourt" "bars" "I") ∈ lw_all := lw_g (lw_at lw_m2 155 rfl) rfl
theorem q552 : (Jvm.Cond.soleField "ClauseCourt" "bars") ∈ lw_all := lw_g (lw_at lw_m2 156 rfl) rfl
theorem q553 : (Jvm.Cond.laysFinal "ClauseCourt" "ClauseCourt" "without" "[Z") ∈ lw_all := lw_g (lw_at lw_m2 157 rfl) rfl
theorem q554 : (Jvm.Cond.soleField "ClauseCourt" "without") ∈ lw_all := lw_g (lw_at lw_m2 158 rfl) rfl
theorem q555 : (Jvm.Cond.laysFinal "ClauseCourt" "ClauseCourt" "proofItem" "[I") ∈ lw_all := lw_g (lw_at lw_m2 159 rfl) rfl
theorem q556 : (Jvm.Cond.soleField "ClauseCourt" "proofItem") ∈ lw_all := lw_g (lw_at lw_m2 160 rfl) rfl
theorem q557 : (Jvm.Cond.laysFinal "ClauseCourt" "ClauseCourt" "proofFrom" "[I") ∈ lw_all := lw_g (lw_at lw_m2 161 rfl) rfl
theorem q558 : (Jvm.Cond.soleField "ClauseCourt" "proofFrom") ∈ lw_all := lw_g (lw_at lw_m2 162 rfl) rfl
theorem q559 : (Jvm.Cond.lays "ClauseCourt" "ClauseCourt" "proofs" "I") ∈ lw_all := lw_g (lw_at lw_m2 163 rfl) rfl
theorem q560 : (Jvm.Cond.soleField "ClauseCourt" "proofs") ∈ lw_all := lw_g (lw_at lw_m2 164 rfl) rfl
theorem q561 : (Jvm.Cond.lays "ClauseCourt" "ClauseCourt" "refusedAt" "I") ∈ lw_all := lw_g (lw_at lw_m2 165 rfl) rfl
theorem q562 : (Jvm.Cond.soleField "ClauseCourt" "refusedAt") ∈ lw_all := lw_g (lw_at lw_m2 166 rfl) rfl
theorem q563 : (Jvm.Cond.laysFinal "ClauseCourt" "ClauseCourt" "ownItem" "[I") ∈ lw_all := lw_g (lw_at lw_m2 167 rfl) rfl
theorem q564 : (Jvm.Cond.soleField "ClauseCourt" "ownItem") ∈ lw_all := lw_g (lw_at lw_m2 168 rfl) rfl
theorem q565 : (Jvm.Cond.laysFinal "ClauseCourt" "ClauseCourt" "ownFrom" "[I") ∈ lw_all := lw_g (lw_at lw_m2 169 rfl) rfl
theorem q566 : (Jvm.Cond.soleField "ClauseCourt" "ownFrom") ∈ lw_all := lw_g (lw_at lw_m2 170 rfl) rfl
theorem q567 : (Jvm.Cond.lays "ClauseCourt" "ClauseCourt" "sum" "J") ∈ lw_all := lw_g (lw_at lw_m2 171 rfl) rfl
theorem q568 : (Jvm.Cond.soleField "ClauseCourt" "sum") ∈ lw_all := lw_g (lw_at lw_m2 172 rfl) rfl
theorem q569 : (Jvm.Cond.superclass "ClauseCourt" "java/lang/Object") ∈ lw_all := lw_g (lw_at lw_m2 173 rfl) rfl
theorem q571 : (Jvm.Cond.instanceMethod ({ cls := "ClauseCourt", name := "names", desc := "(I)I" } : Jvm.MethodName)) ∈ lw_all := lw_g (lw_at lw_m2 175 rfl) rfl
theorem q572 : (Jvm.Cond.selects "ClauseCourt" ({ cls := "ClauseCourt", name := "names", desc := "(I)I" } : Jvm.MethodName) ({ cls := "ClauseCourt", name := "names", desc := "(I)I" } : Jvm.MethodName)) ∈ lw_all := lw_g (lw_at lw_m2 176 rfl) rfl
theorem q573 : (Jvm.Cond.code ({ cls := "ClauseCourt", name := "names", desc := "(I)I" } : Jvm.MethodName) prog_1_method_7_code (2 : Nat) (Option.some Jvm.ClassFile.FieldType.int)) ∈ lw_all := lw_g (lw_at lw_m2 177 rfl) rfl
theorem q574 : (Jvm.Cond.constantLong "ClauseCourt" (122 : Nat) (300 : Int64)) ∈ lw_all := lw_g (lw_at lw_m2 178 rfl) rfl
theorem q575 : (Jvm.Cond.methodLink "ClauseCourt" (109 : Nat) ({ cls := "ClauseCourt", name := "isIn", desc := "(JJJ)Z" } : Jvm.MethodName)) ∈ lw_all := lw_g (lw_at lw_m2 179 rfl) rfl
theorem q576 : (Jvm.Cond.static ({ cls := "ClauseCourt", name := "isIn", desc := "(JJJ)Z" } : Jvm.MethodName)) ∈ lw_all := lw_g (lw_at lw_m2 180 rfl) rfl
theorem q577 : (Jvm.Cond.code ({ cls := "ClauseCourt", name := "isIn", desc := "(JJJ)Z" } : Jvm.MethodName) prog_1_method_2_code (6 : Nat) (Option.some Jvm.ClassFile.FieldType.boolean)) ∈ lw_all := lw_g (lw_at lw_m2 181 rfl) rfl
theorem q578 : (Jvm.Cond.methodLink "ClauseCourt" (124 : Nat) ({ cls := "ClauseCourt", name := "refused", desc := "(I)I" } : Jvm.MethodName)) ∈ lw_all := lw_g (lw_at lw_m2 182 rfl) rfl
theorem q579 : (Jvm.Cond.privateMethod ({ cls := "ClauseCourt", name := "refused", desc := "(I)I" } : Jvm.MethodName)) ∈ lw_tbl := lw_at lw_m2 183 rfl
theorem q580 : (Jvm.Cond.instanceMethod ({ cls := "ClauseCourt", name := "refused", desc := "(I)I" } : Jvm.MethodName)) ∈ lw_all := lw_g (lw_at lw_m2 184 rfl) rfl
theorem q581 : (Jvm.Cond.code ({ cls := "ClauseCourt", name := "refused", desc := "(I)I" } : Jvm.MethodName) prog_1_method_3_code (2 : Nat) (Option.some Jvm.ClassFile.FieldType.int)) ∈ lw_all := lw_g (lw_at lw_m2 185 rfl) rfl
theorem q582 : (Jvm.Cond.methodLink "ClauseCourt" (127 : Nat) ({ cls := "ClauseCourt", name := "moreNames", desc := "(I)V" } : Jvm.MethodName)) ∈ lw_all := lw_g (lw_at lw_m2 186 rfl) rfl
theorem q583 : (Jvm.Cond.privateMethod ({ cls := "ClauseCourt", name := "moreNames", desc := "(I)V" } : Jvm.MethodName)) ∈ lw_tbl := lw_at lw_m2 187 rfl
theorem q584 : (Jvm.Cond.instanceMethod ({ cls := "ClauseCourt", name := "moreNames", desc := "(I)V" } : Jvm.MethodName)) ∈ lw_all := lw_g (lw_at lw_m2 188 rfl) rfl
theorem q585 : (Jvm.Cond.code ({ cls := "ClauseCourt", name := "moreNames", desc := "(I)V" } : Jvm.MethodName) prog_1_method_4_code (3 : Nat) (Option.none : Option Jvm.ClassFile.FieldType)) ∈ lw_all := lw_g (lw_at lw_m2 189 rfl) rfl
theorem q587 : (Jvm.Cond.methodLink "ClauseCourt" (103 : Nat) ({ cls := "ClauseCourt$Name", name := "<init>", desc := "(I)V" } : Jvm.MethodName)) ∈ lw_all := lw_g (lw_at lw_m2 191 rfl) rfl
theorem q592 : (Jvm.Cond.fieldLinkNest "ClauseCourt" (119 : Nat) "ClauseCourt$Name" "number" "I" "ClauseCourt") ∈ lw_tbl := lw_at lw_m2 196 rfl
theorem q594 : (Jvm.Cond.fieldLinkNest "ClauseCourt" (332 : Nat) "ClauseCourt$Name" "told" "I" "ClauseCourt") ∈ lw_tbl := lw_at lw_m2 198 rfl
theorem q595 : (Jvm.Cond.fieldLinkNest "ClauseCourt" (511 : Nat) "ClauseCourt$Name" "isCounted" "Z" "ClauseCourt") ∈ lw_tbl := lw_at lw_m2 199 rfl
theorem q604 : (Jvm.Cond.instanceMethod ({ cls := "ClauseCourt", name := "row", desc := "(II)I" } : Jvm.MethodName)) ∈ lw_all := lw_g (lw_at lw_m2 208 rfl) rfl
theorem q605 : (Jvm.Cond.selects "ClauseCourt" ({ cls := "ClauseCourt", name := "row", desc := "(II)I" } : Jvm.MethodName) ({ cls := "ClauseCourt", name := "row", desc := "(II)I" } : Jvm.MethodName)) ∈ lw_all := lw_g (lw_at lw_m2 209 rfl) rfl
theorem q606 : (Jvm.Cond.codeWith ({ cls := "ClauseCourt", name := "row", desc := "(II)I" } : Jvm.MethodName) prog_1_method_9_code (4 : Nat) (Option.some Jvm.ClassFile.FieldType.int) [((21 : Nat), (31 : Nat), (32 : Nat), (136 : Nat))]) ∈ lw_all := lw_g (lw_at lw_m2 210 rfl) rfl
theorem q607 : (Jvm.Cond.classLink "ClauseCourt" (136 : Nat) "java/lang/NegativeArraySizeException") ∈ lw_all := lw_g (lw_at lw_m2 211 rfl) rfl
theorem q692 : (Jvm.Cond.methodLink "ClauseCourt" (132 : Nat) ({ cls := "ClauseCourt", name := "isPaper", desc := "(I)Z" } : Jvm.MethodName)) ∈ lw_all := lw_g (lw_at lw_m3 56 rfl) rfl
theorem q693 : (Jvm.Cond.static ({ cls := "ClauseCourt", name := "isPaper", desc := "(I)Z" } : Jvm.MethodName)) ∈ lw_all := lw_g (lw_at lw_m3 57 rfl) rfl
theorem q694 : (Jvm.Cond.code ({ cls := "ClauseCourt", name := "isPaper", desc := "(I)Z" } : Jvm.MethodName) prog_1_method_8_code (1 : Nat) (Option.some Jvm.ClassFile.FieldType.boolean)) ∈ lw_all := lw_g (lw_at lw_m3 58 rfl) rfl
theorem q695 : (Jvm.Cond.constantLong "ClauseCourt" (130 : Nat) (39 : Int64)) ∈ lw_all := lw_g (lw_at lw_m3 59 rfl) rfl
theorem q697 : (Jvm.Cond.instanceMethod ({ cls := "ClauseCourt", name := "drop", desc := "(I)I" } : Jvm.MethodName)) ∈ lw_all := lw_g (lw_at lw_m3 61 rfl) rfl
theorem q698 : (Jvm.Cond.selects "ClauseCourt" ({ cls := "ClauseCourt", name := "drop", desc := "(I)I" } : Jvm.MethodName) ({ cls := "ClauseCourt", name := "drop", desc := "(I)I" } : Jvm.MethodName)) ∈ lw_all := lw_g (lw_at lw_m3 62 rfl) rfl
theorem q699 : (Jvm.Cond.code ({ cls := "ClauseCourt", name := "drop", desc := "(I)I" } : Jvm.MethodName) prog_1_method_10_code (2 : Nat) (Option.some Jvm.ClassFile.FieldType.int)) ∈ lw_all := lw_g (lw_at lw_m3 63 rfl) rfl
theorem q701 : (Jvm.Cond.instanceMethod ({ cls := "ClauseCourt", name := "put", desc := "(III)I" } : Jvm.MethodName)) ∈ lw_all := lw_g (lw_at lw_m3 65 rfl) rfl
theorem q702 : (Jvm.Cond.selects "ClauseCourt" ({ cls := "ClauseCourt", name := "put", desc := "(III)I" } : Jvm.MethodName) ({ cls := "ClauseCourt", name := "put", desc := "(III)I" } : Jvm.MethodName)) ∈ lw_all := lw_g (lw_at lw_m3 66 rfl) rfl
theorem q703 : (Jvm.Cond.codeWith ({ cls := "ClauseCourt", name := "put", desc := "(III)I" } : Jvm.MethodName) prog_1_method_11_code (5 : Nat) (Option.some Jvm.ClassFile.FieldType.int) [((15 : Nat), (25 : Nat), (26 : Nat), (138 : Nat)), ((15 : Nat), (25 : Nat), (36 : Nat), (140 : Nat))]) ∈ lw_all := lw_g (lw_at lw_m3 67 rfl) rfl
theorem q704 : (Jvm.Cond.classLink "ClauseCourt" (138 : Nat) "java/lang/NullPointerException") ∈ lw_all := lw_g (lw_at lw_m3 68 rfl) rfl
theorem q729 : (Jvm.Cond.classLink "ClauseCourt" (140 : Nat) "java/lang/ArrayIndexOutOfBoundsException") ∈ lw_all := lw_g (lw_at lw_m3 93 rfl) rfl
theorem q749 : (Jvm.Cond.instanceMethod ({ cls := "ClauseCourt", name := "get", desc := "(II)J" } : Jvm.MethodName)) ∈ lw_all := lw_g (lw_at lw_m3 113 rfl) rfl
theorem q750 : (Jvm.Cond.selects "ClauseCourt" ({ cls := "ClauseCourt", name := "get", desc := "(II)J" } : Jvm.MethodName) ({ cls := "ClauseCourt", name := "get", desc := "(II)J" } : Jvm.MethodName)) ∈ lw_all := lw_g (lw_at lw_m3 114 rfl) rfl
theorem q751 : (Jvm.Cond.codeWith ({ cls := "ClauseCourt", name := "get", desc := "(II)J" } : Jvm.MethodName) prog_1_method_12_code (4 : Nat) (Option.some Jvm.ClassFile.FieldType.long) [((20 : Nat), (45 : Nat), (46 : Nat), (138 : Nat)), ((20 : Nat), (45 : Nat), (60 : Nat), (140 : Nat))]) ∈ lw_all := lw_g (lw_at lw_m3 115 rfl) rfl
theorem q752 : (Jvm.Cond.constantLong "ClauseCourt" (142 : Nat) (10000000000 : Int64)) ∈ lw_all := lw_g (lw_at lw_m3 116 rfl) rfl
theorem q754 : (Jvm.Cond.instanceMethod ({ cls := "ClauseCourt", name := "copy", desc := "(IIIII)I" } : Jvm.MethodName)) ∈ lw_all := lw_g (lw_at lw_m3 118 rfl) rfl
theorem q755 : (Jvm.Cond.selects "ClauseCourt" ({ cls := "ClauseCourt", name := "copy", desc := "(IIIII)I" } : Jvm.MethodName) ({ cls := "ClauseCourt", name := "copy", desc := "(IIIII)I" } : Jvm.MethodName)) ∈ lw_all := lw_g (lw_at lw_m3 119 rfl) rfl
theorem q756 : (Jvm.Cond.codeWith ({ cls := "ClauseCourt", name := "copy", desc := "(IIIII)I" } : Jvm.MethodName) prog_1_method_13_code (7 : Nat) (Option.some Jvm.ClassFile.FieldType.int) [((22 : Nat), (44 : Nat), (45 : Nat), (138 : Nat)), ((22 : Nat), (44 : Nat), (55 : Nat), (140 : Nat))]) ∈ lw_all := lw_g (lw_at lw_m3 120 rfl) rfl
theorem q757 : (Jvm.Cond.methodLink "ClauseCourt" (144 : Nat) ({ cls := "java/lang/System", name := "arraycopy", desc := "(Ljava/lang/Object;ILjava/lang/Object;II)V" } : Jvm.MethodName)) ∈ lw_all := lw_g (lw_at lw_m3 121 rfl) rfl
theorem q761 : (Jvm.Cond.instanceMethod ({ cls := "ClauseCourt", name := "cut", desc := "(II)I" } : Jvm.MethodName)) ∈ lw_all := lw_g (lw_at lw_m3 125 rfl) rfl
theorem q762 : (Jvm.Cond.selects "ClauseCourt" ({ cls := "ClauseCourt", name := "cut", desc := "(II)I" } : Jvm.MethodName) ({ cls := "ClauseCourt", name := "cut", desc := "(II)I" } : Jvm.MethodName)) ∈ lw_all := lw_g (lw_at lw_m3 126 rfl) rfl
theorem q763 : (Jvm.Cond.codeWith ({ cls := "ClauseCourt", name := "cut", desc := "(II)I" } : Jvm.MethodName) prog_1_method_14_code (4 : Nat) (Option.some Jvm.ClassFile.FieldType.int) [((21 : Nat), (46 : Nat), (47 : Nat), (136 : Nat)), ((21 : Nat), (46 : Nat), (56 : Nat), (138 : Nat)), ((21 : Nat), (46 : Nat), (65 : Nat), (140 : Nat))]) ∈ lw_all := lw_g (lw_at lw_m3 127 rfl) rfl
theorem q765 : (Jvm.Cond.instanceMethod ({ cls := "ClauseCourt", name := "feed", desc := "(JI)I" } : Jvm.MethodName)) ∈ lw_all := lw_g (lw_at lw_m3 129 rfl) rfl
theorem q766 : (Jvm.Cond.selects "ClauseCourt" ({ cls := "ClauseCourt", name := "feed", desc := "(JI)I" } : Jvm.MethodName) ({ cls := "ClauseCourt", name := "feed", desc := "(JI)I" } : Jvm.MethodName)) ∈ lw_all := lw_g (lw_at lw_m3 130 rfl) rfl
theorem q767 : (Jvm.Cond.code ({ cls := "ClauseCourt", name := "feed", desc := "(JI)I" } : Jvm.MethodName) prog_1_method_15_code (5 : Nat) (Option.some Jvm.ClassFile.FieldType.int)) ∈ lw_all := lw_g (lw_at lw_m3 131 rfl) rfl
theorem q768 : (Jvm.Cond.constantLong "ClauseCourt" (150 : Nat) (8 : Int64)) ∈ lw_all := lw_g (lw_at lw_m3 132 rfl) rfl
theorem q770 : (Jvm.Cond.instanceMethod ({ cls := "ClauseCourt", name := "wipe", desc := "()I" } : Jvm.MethodName)) ∈ lw_all := lw_g (lw_at lw_m3 134 rfl) rfl
theorem q771 : (Jvm.Cond.selects "ClauseCourt" ({ cls := "ClauseCourt", name := "wipe", desc := "()I" } : Jvm.MethodName) ({ cls := "ClauseCourt", name := "wipe", desc := "()I" } : Jvm.MethodName)) ∈ lw_all := lw_g (lw_at lw_m3 135 rfl) rfl
theorem q772 : (Jvm.Cond.code ({ cls := "ClauseCourt", name := "wipe", desc := "()I" } : Jvm.MethodName) prog_1_method_16_code (2 : Nat) (Option.some Jvm.ClassFile.FieldType.int)) ∈ lw_all := lw_g (lw_at lw_m3 136 rfl) rfl
theorem q774 : (Jvm.Cond.instanceMethod ({ cls := "ClauseCourt", name := "trace", desc := "(I)I" } : Jvm.MethodName)) ∈ lw_all := lw_g (lw_at lw_m3 138 rfl) rfl
theorem q775 : (Jvm.Cond.selects "ClauseCourt" ({ cls := "ClauseCourt", name := "trace", desc := "(I)I" } : Jvm.MethodName) ({ cls := "ClauseCourt", name := "trace", desc := "(I)I" } : Jvm.MethodName)) ∈ lw_all := lw_g (lw_at lw_m3 139 rfl) rfl
theorem q776 : (Jvm.Cond.code ({ cls := "ClauseCourt", name := "trace", desc := "(I)I" } : Jvm.MethodName) prog_1_method_18_code (2 : Nat) (Option.some Jvm.ClassFile.FieldType.int)) ∈ lw_all := lw_g (lw_at lw_m3 140 rfl) rfl
theorem q777 : (Jvm.Cond.methodLink "ClauseCourt" (158 : Nat) ({ cls := "java/lang/Math", name := "min", desc := "(II)I" } : Jvm.MethodName)) ∈ lw_all := lw_g (lw_at lw_m3 141 rfl) rfl
theorem q781 : (Jvm.Cond.instanceMethod ({ cls := "ClauseCourt", name := "out", desc := "(I)I" } : Jvm.MethodName)) ∈ lw_all := lw_g (lw_at lw_m3 145 rfl) rfl
theorem q782 : (Jvm.Cond.selects "ClauseCourt" ({ cls := "ClauseCourt", name := "out", desc := "(I)I" } : Jvm.MethodName) ({ cls := "ClauseCourt", name := "out", desc := "(I)I" } : Jvm.MethodName)) ∈ lw_all := lw_g (lw_at lw_m3 146 rfl) rfl
theorem q783 : (Jvm.Cond.code ({ cls := "ClauseCourt", name := "out", desc := "(I)I" } : Jvm.MethodName) prog_1_method_22_code (2 : Nat) (Option.some Jvm.ClassFile.FieldType.int)) ∈ lw_all := lw_g (lw_at lw_m3 147 rfl) rfl
theorem q785 : (Jvm.Cond.instanceMethod ({ cls := "ClauseCourt", name := "clause", desc := "(I)I" } : Jvm.MethodName)) ∈ lw_all := lw_g (lw_at lw_m3 149 rfl) rfl
theorem q786 : (Jvm.Cond.selects "ClauseCourt" ({ cls := "ClauseCourt", name := "clause", desc := "(I)I" } : Jvm.MethodName) ({ cls := "ClauseCourt", name := "clause", desc := "(I)I" } : Jvm.MethodName)) ∈ lw_all := lw_g (lw_at lw_m3 150 rfl) rfl
theorem q787 : (Jvm.Cond.code ({ cls := "ClauseCourt", name := "clause", desc := "(I)I" } : Jvm.MethodName) prog_1_method_35_code (2 : Nat) (Option.some Jvm.ClassFile.FieldType.int)) ∈ lw_all := lw_g (lw_at lw_m3 151 rfl) rfl
theorem q788 : (Jvm.Cond.methodLink "ClauseCourt" (254 : Nat) ({ cls := "ClauseCourt", name := "come", desc := "(IIIZ)I" } : Jvm.MethodName)) ∈ lw_all := lw_g (lw_at lw_m3 152 rfl) rfl
theorem q789 : (Jvm.Cond.privateMethod ({ cls := "ClauseCourt", name := "come", desc := "(IIIZ)I" } : Jvm.MethodName)) ∈ lw_tbl := lw_at lw_m3 153 rfl
theorem q790 : (Jvm.Cond.instanceMethod ({ cls := "ClauseCourt", name := "come", desc := "(IIIZ)I" } : Jvm.MethodName)) ∈ lw_all := lw_g (lw_at lw_m3 154 rfl) rfl
theorem q791 : (Jvm.Cond.codeWith ({ cls := "ClauseCourt", name := "come", desc := "(IIIZ)I" } : Jvm.MethodName) prog_1_method_34_code (6 : Nat) (Option.some Jvm.ClassFile.FieldType.int) [((27 : Nat), (53 : Nat), (54 : Nat), (138 : Nat)), ((27 : Nat), (53 : Nat), (64 : Nat), (140 : Nat))]) ∈ lw_all := lw_g (lw_at lw_m3 155 rfl) rfl
theorem q792 : (Jvm.Cond.constantLong "ClauseCourt" (238 : Nat) (12 : Int64)) ∈ lw_all := lw_g (lw_at lw_m3 156 rfl) rfl
theorem q793 : (Jvm.Cond.methodLink "ClauseCourt" (240 : Nat) ({ cls := "ClauseCourt", name := "made", desc := "(IIIZ)LClauseCourt$Rule;" } : Jvm.MethodName)) ∈ lw_all := lw_g (lw_at lw_m3 157 rfl) rfl
theorem q794 : (Jvm.Cond.privateMethod ({ cls := "ClauseCourt", name := "made", desc := "(IIIZ)LClauseCourt$Rule;" } : Jvm.MethodName)) ∈ lw_tbl := lw_at lw_m3 158 rfl
theorem q795 : (Jvm.Cond.instanceMethod ({ cls := "ClauseCourt", name := "made", desc := "(IIIZ)LClauseCourt$Rule;" } : Jvm.MethodName)) ∈ lw_all := lw_g (lw_at lw_m3 159 rfl) rfl
theorem q796 : (Jvm.Cond.code ({ cls := "ClauseCourt", name := "made", desc := "(IIIZ)LClauseCourt$Rule;" } : Jvm.MethodName) prog_1_method_33_code (6 : Nat) (Option.some (Jvm.ClassFile.FieldType.object "ClauseCourt$Rule"))) ∈ lw_all := lw_g (lw_at lw_m3 160 rfl) rfl
theorem q797 : (Jvm.Cond.methodLink "ClauseCourt" (214 : Nat) ({ cls := "ClauseCourt", name := "itemsOf", desc := "(I)[I" } : Jvm.MethodName)) ∈ lw_all := lw_g (lw_at lw_m3 161 rfl) rfl
theorem q798 : (Jvm.Cond.privateMethod ({ cls := "ClauseCourt", name := "itemsOf", desc := "(I)[I" } : Jvm.MethodName)) ∈ lw_tbl := lw_at lw_m3 162 rfl
theorem q799 : (Jvm.Cond.instanceMethod ({ cls := "ClauseCourt", name := "itemsOf", desc := "(I)[I" } : Jvm.MethodName)) ∈ lw_all := lw_g (lw_at lw_m3 163 rfl) rfl
theorem q800 : (Jvm.Cond.code ({ cls := "ClauseCourt", name := "itemsOf", desc := "(I)[I" } : Jvm.MethodName) prog_1_method_32_code (5 : Nat) (Option.some (Jvm.ClassFile.FieldType.array Jvm.ClassFile.FieldType.int))) ∈ lw_all := lw_g (lw_at lw_m3 164 rfl) rfl
theorem q801 : (Jvm.Cond.methodLink "ClauseCourt" (211 : Nat) ({ cls := "ClauseCourt", name := "itemOf", desc := "(I)I" } : Jvm.MethodName)) ∈ lw_all := lw_g (lw_at lw_m3 165 rfl) rfl
theorem q802 : (Jvm.Cond.privateMethod ({ cls := "ClauseCourt", name := "itemOf", desc := "(I)I" } : Jvm.MethodName)) ∈ lw_tbl := lw_at lw_m3 166 rfl
theorem q803 : (Jvm.Cond.instanceMethod ({ cls := "ClauseCourt", name := "itemOf", desc := "(I)I" } : Jvm.MethodName)) ∈ lw_all := lw_g (lw_at lw_m3 167 rfl) rfl
theorem q804 : (Jvm.Cond.code ({ cls := "ClauseCourt", name := "itemOf", desc := "(I)I" } : Jvm.MethodName) prog_1_method_6_code (3 : Nat) (Option.some Jvm.ClassFile.FieldType.int)) ∈ lw_all := lw_g (lw_at lw_m3 168 rfl) rfl
theorem q805 : (Jvm.Cond.methodLink "ClauseCourt" (113 : Nat) ({ cls := "java/lang/Math", name := "abs", desc := "(I)I" } : Jvm.MethodName)) ∈ lw_all := lw_g (lw_at lw_m3 169 rfl) rfl
theorem q808 : (Jvm.Cond.classLink "ClauseCourt" (218 : Nat) "ClauseCourt$Clause") ∈ lw_all := lw_g (lw_at lw_m3 172 rfl) rfl
theorem q810 : (Jvm.Cond.methodLink "ClauseCourt" (220 : Nat) ({ cls := "ClauseCourt$Clause", name := "<init>", desc := "(LClauseCourt;I[I)V" } : Jvm.MethodName)) ∈ lw_all := lw_g (lw_at lw_m3 174 rfl) rfl
theorem q819 : (Jvm.Cond.fieldLink "ClauseCourt" (285 : Nat) "ClauseCourt$Rule" "kind" "I") ∈ lw_all := lw_g (lw_at lw_m3 183 rfl) rfl
theorem q829 : (Jvm.Cond.fieldLink "ClauseCourt" (296 : Nat) "ClauseCourt$Rule" "items" "[I") ∈ lw_all := lw_g (lw_at lw_m3 193 rfl) rfl
theorem q830 : (Jvm.Cond.fieldLink "ClauseCourt" (205 : Nat) "ClauseCourt$Rule" "first" "I") ∈ lw_all := lw_g (lw_at lw_m3 194 rfl) rfl
theorem q832 : (Jvm.Cond.fieldLink "ClauseCourt" (208 : Nat) "ClauseCourt$Rule" "many" "I") ∈ lw_all := lw_g (lw_at lw_m3 196 rfl) rfl
theorem q847 : (Jvm.Cond.classLink "ClauseCourt" (223 : Nat) "ClauseCourt$AtMost") ∈ lw_all := lw_g (lw_at lw_m3 211 rfl) rfl
theorem q849 : (Jvm.Cond.methodLink "ClauseCourt" (225 : Nat) ({ cls := "ClauseCourt$AtMost", name := "<init>", desc := "(LClauseCourt;I[II)V" } : Jvm.MethodName)) ∈ lw_all := lw_g (lw_at lw_m3 213 rfl) rfl
theorem q868 : (Jvm.Cond.classLink "ClauseCourt" (228 : Nat) "ClauseCourt$Group") ∈ lw_all := lw_g (lw_at lw_m3 232 rfl) rfl
theorem q870 : (Jvm.Cond.methodLink "ClauseCourt" (230 : Nat) ({ cls := "ClauseCourt$Group", name := "<init>", desc := "(LClauseCourt;[II)V" } : Jvm.MethodName)) ∈ lw_all := lw_g (lw_at lw_m3 234 rfl) rfl
theorem q886 : (Jvm.Cond.classLink "ClauseCourt" (233 : Nat) "ClauseCourt$Parity") ∈ lw_all := lw_g (lw_at lw_m4 10 rfl) rfl
theorem q888 : (Jvm.Cond.methodLink "ClauseCourt" (235 : Nat) ({ cls := "ClauseCourt$Parity", name := "<init>", desc := "(LClauseCourt;[IZ)V" } : Jvm.MethodName)) ∈ lw_all := lw_g (lw_at lw_m4 12 rfl) rfl
theorem q904 : (Jvm.Cond.methodLink "ClauseCourt" (244 : Nat) ({ cls := "ClauseCourt", name := "beginPlan", desc := "()V" } : Jvm.MethodName)) ∈ lw_all := lw_g (lw_at lw_m4 28 rfl) rfl
theorem q905 : (Jvm.Cond.privateMethod ({ cls := "ClauseCourt", name := "beginPlan", desc := "()V" } : Jvm.MethodName)) ∈ lw_tbl := lw_at lw_m4 29 rfl
theorem q906 : (Jvm.Cond.instanceMethod ({ cls := "ClauseCourt", name := "beginPlan", desc := "()V" } : Jvm.MethodName)) ∈ lw_all := lw_g (lw_at lw_m4 30 rfl) rfl
theorem q907 : (Jvm.Cond.code ({ cls := "ClauseCourt", name := "beginPlan", desc := "()V" } : Jvm.MethodName) prog_1_method_23_code (1 : Nat) (Option.none : Option Jvm.ClassFile.FieldType)) ∈ lw_all := lw_g (lw_at lw_m4 31 rfl) rfl
theorem q908 : (Jvm.Cond.methodLink "ClauseCourt" (247 : Nat) ({ cls := "ClauseCourt$Rule", name := "lay", desc := "()V" } : Jvm.MethodName)) ∈ lw_all := lw_g (lw_at lw_m4 32 rfl) rfl
theorem q932 : (Jvm.Cond.privateMethod ({ cls := "ClauseCourt", name := "newName", desc := "()I" } : Jvm.MethodName)) ∈ lw_tbl := lw_at lw_m4 56 rfl
theorem q933 : (Jvm.Cond.instanceMethod ({ cls := "ClauseCourt", name := "newName", desc := "()I" } : Jvm.MethodName)) ∈ lw_all := lw_g (lw_at lw_m4 57 rfl) rfl
theorem q934 : (Jvm.Cond.code ({ cls := "ClauseCourt", name := "newName", desc := "()I" } : Jvm.MethodName) prog_1_method_24_code (1 : Nat) (Option.some Jvm.ClassFile.FieldType.int)) ∈ lw_all := lw_g (lw_at lw_m4 58 rfl) rfl
theorem q936 : (Jvm.Cond.privateMethod ({ cls := "ClauseCourt", name := "plan", desc := "(II)V" } : Jvm.MethodName)) ∈ lw_tbl := lw_at lw_m4 60 rfl
theorem q937 : (Jvm.Cond.instanceMethod ({ cls := "ClauseCourt", name := "plan", desc := "(II)V" } : Jvm.MethodName)) ∈ lw_all := lw_g (lw_at lw_m4 61 rfl) rfl
theorem q938 : (Jvm.Cond.code ({ cls := "ClauseCourt", name := "plan", desc := "(II)V" } : Jvm.MethodName) prog_1_method_28_code (3 : Nat) (Option.none : Option Jvm.ClassFile.FieldType)) ∈ lw_all := lw_g (lw_at lw_m4 62 rfl) rfl
theorem q939 : (Jvm.Cond.methodLink "ClauseCourt" (187 : Nat) ({ cls := "ClauseCourt", name := "also", desc := "(I)V" } : Jvm.MethodName)) ∈ lw_all := lw_g (lw_at lw_m4 63 rfl) rfl
theorem q940 : (Jvm.Cond.privateMethod ({ cls := "ClauseCourt", name := "also", desc := "(I)V" } : Jvm.MethodName)) ∈ lw_tbl := lw_at lw_m4 64 rfl
theorem q941 : (Jvm.Cond.instanceMethod ({ cls := "ClauseCourt", name := "also", desc := "(I)V" } : Jvm.MethodName)) ∈ lw_all := lw_g (lw_at lw_m4 65 rfl) rfl
theorem q942 : (Jvm.Cond.code ({ cls := "ClauseCourt", name := "also", desc := "(I)V" } : Jvm.MethodName) prog_1_method_25_code (4 : Nat) (Option.none : Option Jvm.ClassFile.FieldType)) ∈ lw_all := lw_g (lw_at lw_m4 66 rfl) rfl
theorem q943 : (Jvm.Cond.methodLink "ClauseCourt" (193 : Nat) ({ cls := "ClauseCourt", name := "plan", desc := "(I)V" } : Jvm.MethodName)) ∈ lw_all := lw_g (lw_at lw_m4 67 rfl) rfl
theorem q944 : (Jvm.Cond.privateMethod ({ cls := "ClauseCourt", name := "plan", desc := "(I)V" } : Jvm.MethodName)) ∈ lw_tbl := lw_at lw_m4 68 rfl
theorem q945 : (Jvm.Cond.instanceMethod ({ cls := "ClauseCourt", name := "plan", desc := "(I)V" } : Jvm.MethodName)) ∈ lw_all := lw_g (lw_at lw_m4 69 rfl) rfl
theorem q946 : (Jvm.Cond.code ({ cls := "ClauseCourt", name := "plan", desc := "(I)V" } : Jvm.MethodName) prog_1_method_27_code (2 : Nat) (Option.none : Option Jvm.ClassFile.FieldType)) ∈ lw_all := lw_g (lw_at lw_m4 70 rfl) rfl
theorem q947 : (Jvm.Cond.methodLink "ClauseCourt" (190 : Nat) ({ cls := "ClauseCourt", name := "endRow", desc := "()V" } : Jvm.MethodName)) ∈ lw_all := lw_g (lw_at lw_m4 71 rfl) rfl
theorem q948 : (Jvm.Cond.privateMethod ({ cls := "ClauseCourt", name := "endRow", desc := "()V" } : Jvm.MethodName)) ∈ lw_tbl := lw_at lw_m4 72 rfl
theorem q949 : (Jvm.Cond.instanceMethod ({ cls := "ClauseCourt", name := "endRow", desc := "()V" } : Jvm.MethodName)) ∈ lw_all := lw_g (lw_at lw_m4 73 rfl) rfl
theorem q950 : (Jvm.Cond.code ({ cls := "ClauseCourt", name := "endRow", desc := "()V" } : Jvm.MethodName) prog_1_method_26_code (1 : Nat) (Option.none : Option Jvm.ClassFile.FieldType)) ∈ lw_all := lw_g (lw_at lw_m4 74 rfl) rfl
theorem q952 : (Jvm.Cond.privateMethod ({ cls := "ClauseCourt", name := "plan", desc := "(III)V" } : Jvm.MethodName)) ∈ lw_tbl := lw_at lw_m4 76 rfl
theorem q953 : (Jvm.Cond.instanceMethod ({ cls := "ClauseCourt", name := "plan", desc := "(III)V" } : Jvm.MethodName)) ∈ lw_all := lw_g (lw_at lw_m4 77 rfl) rfl
theorem q954 : (Jvm.Cond.code ({ cls := "ClauseCourt", name := "plan", desc := "(III)V" } : Jvm.MethodName) prog_1_method_29_code (4 : Nat) (Option.none : Option Jvm.ClassFile.FieldType)) ∈ lw_all := lw_g (lw_at lw_m4 78 rfl) rfl
theorem q955 : (Jvm.Cond.methodLink "ClauseCourt" (196 : Nat) ({ cls := "ClauseCourt", name := "plan", desc := "(II)V" } : Jvm.MethodName)) ∈ lw_all := lw_g (lw_at lw_m4 79 rfl) rfl
theorem q1008 : (Jvm.Cond.methodLink "ClauseCourt" (250 : Nat) ({ cls := "ClauseCourt", name := "laid", desc := "(LClauseCourt$Rule;)I" } : Jvm.MethodName)) ∈ lw_all := lw_g (lw_at lw_m4 132 rfl) rfl
theorem q1009 : (Jvm.Cond.privateMethod ({ cls := "ClauseCourt", name := "laid", desc := "(LClauseCourt$Rule;)I" } : Jvm.MethodName)) ∈ lw_tbl := lw_at lw_m4 133 rfl
theorem q1010 : (Jvm.Cond.instanceMethod ({ cls := "ClauseCourt", name := "laid", desc := "(LClauseCourt$Rule;)I" } : Jvm.MethodName)) ∈ lw_all := lw_g (lw_at lw_m4 134 rfl) rfl
theorem q1011 : (Jvm.Cond.code ({ cls := "ClauseCourt", name := "laid", desc := "(LClauseCourt$Rule;)I" } : Jvm.MethodName) prog_1_method_30_code (4 : Nat) (Option.some Jvm.ClassFile.FieldType.int)) ∈ lw_all := lw_g (lw_at lw_m4 135 rfl) rfl
theorem q1013 : (Jvm.Cond.instanceMethod ({ cls := "ClauseCourt", name := "atMost", desc := "(II)I" } : Jvm.MethodName)) ∈ lw_all := lw_g (lw_at lw_m4 137 rfl) rfl
theorem q1014 : (Jvm.Cond.selects "ClauseCourt" ({ cls := "ClauseCourt", name := "atMost", desc := "(II)I" } : Jvm.MethodName) ({ cls := "ClauseCourt", name := "atMost", desc := "(II)I" } : Jvm.MethodName)) ∈ lw_all := lw_g (lw_at lw_m4 138 rfl) rfl
theorem q1015 : (Jvm.Cond.code ({ cls := "ClauseCourt", name := "atMost", desc := "(II)I" } : Jvm.MethodName) prog_1_method_36_code (3 : Nat) (Option.some Jvm.ClassFile.FieldType.int)) ∈ lw_all := lw_g (lw_at lw_m4 139 rfl) rfl
theorem q1017 : (Jvm.Cond.instanceMethod ({ cls := "ClauseCourt", name := "group", desc := "(II)I" } : Jvm.MethodName)) ∈ lw_all := lw_g (lw_at lw_m4 141 rfl) rfl
theorem q1018 : (Jvm.Cond.selects "ClauseCourt" ({ cls := "ClauseCourt", name := "group", desc := "(II)I" } : Jvm.MethodName) ({ cls := "ClauseCourt", name := "group", desc := "(II)I" } : Jvm.MethodName)) ∈ lw_all := lw_g (lw_at lw_m4 142 rfl) rfl
theorem q1019 : (Jvm.Cond.code ({ cls := "ClauseCourt", name := "group", desc := "(II)I" } : Jvm.MethodName) prog_1_method_37_code (3 : Nat) (Option.some Jvm.ClassFile.FieldType.int)) ∈ lw_all := lw_g (lw_at lw_m4 143 rfl) rfl
theorem q1021 : (Jvm.Cond.instanceMethod ({ cls := "ClauseCourt", name := "parity", desc := "(IZ)I" } : Jvm.MethodName)) ∈ lw_all := lw_g (lw_at lw_m4 145 rfl) rfl
theorem q1022 : (Jvm.Cond.selects "ClauseCourt" ({ cls := "ClauseCourt", name := "parity", desc := "(IZ)I" } : Jvm.MethodName) ({ cls := "ClauseCourt", name := "parity", desc := "(IZ)I" } : Jvm.MethodName)) ∈ lw_all := lw_g (lw_at lw_m4 146 rfl) rfl
theorem q1023 : (Jvm.Cond.code ({ cls := "ClauseCourt", name := "parity", desc := "(IZ)I" } : Jvm.MethodName) prog_1_method_38_code (3 : Nat) (Option.some Jvm.ClassFile.FieldType.int)) ∈ lw_all := lw_g (lw_at lw_m4 147 rfl) rfl
theorem q1025 : (Jvm.Cond.instanceMethod ({ cls := "ClauseCourt", name := "told", desc := "()I" } : Jvm.MethodName)) ∈ lw_all := lw_g (lw_at lw_m4 149 rfl) rfl
theorem q1026 : (Jvm.Cond.selects "ClauseCourt" ({ cls := "ClauseCourt", name := "told", desc := "()I" } : Jvm.MethodName) ({ cls := "ClauseCourt", name := "told", desc := "()I" } : Jvm.MethodName)) ∈ lw_all := lw_g (lw_at lw_m4 150 rfl) rfl
theorem q1027 : (Jvm.Cond.codeWith ({ cls := "ClauseCourt", name := "told", desc := "()I" } : Jvm.MethodName) prog_1_method_39_code (6 : Nat) (Option.some Jvm.ClassFile.FieldType.int) [((35 : Nat), (110 : Nat), (111 : Nat), (277 : Nat)), ((35 : Nat), (110 : Nat), (125 : Nat), (138 : Nat)), ((35 : Nat), (110 : Nat), (134 : Nat), (140 : Nat))]) ∈ lw_all := lw_g (lw_at lw_m4 151 rfl) rfl
theorem q1028 : (Jvm.Cond.classLink "ClauseCourt" (277 : Nat) "ClauseCourt$Unread") ∈ lw_all := lw_g (lw_at lw_m4 152 rfl) rfl
theorem q1029 : (Jvm.Cond.classLink "ClauseCourt" (258 : Nat) "ClauseCourt$Reader") ∈ lw_all := lw_g (lw_at lw_m4 153 rfl) rfl
theorem q1031 : (Jvm.Cond.methodLink "ClauseCourt" (260 : Nat) ({ cls := "ClauseCourt$Reader", name := "<init>", desc := "([B)V" } : Jvm.MethodName)) ∈ lw_all := lw_g (lw_at lw_m4 155 rfl) rfl
theorem q1039 : (Jvm.Cond.fieldLinkNest "ClauseCourt" (267 : Nat) "ClauseCourt$Reader" "numbers" "I" "ClauseCourt") ∈ lw_tbl := lw_at lw_m4 163 rfl
theorem q1041 : (Jvm.Cond.fieldLinkNest "ClauseCourt" (270 : Nat) "ClauseCourt$Reader" "number" "[I" "ClauseCourt") ∈ lw_tbl := lw_at lw_m4 165 rfl
theorem q1053 : (Jvm.Cond.methodLink "ClauseCourt" (263 : Nat) ({ cls := "ClauseCourt$Reader", name := "whole", desc := "()LClauseCourt$Part;" } : Jvm.MethodName)) ∈ lw_all := lw_g (lw_at lw_m4 177 rfl) rfl
theorem q1115 : (Jvm.Cond.fieldLinkNest "ClauseCourt" (279 : Nat) "ClauseCourt$Unread" "place" "I" "ClauseCourt") ∈ lw_tbl := lw_at lw_m4 239 rfl
theorem q1132 : (Jvm.Cond.classLink "ClauseCourt" (272 : Nat) "ClauseCourt$Told") ∈ lw_all := lw_g (lw_at lw_m5 16 rfl) rfl
theorem q1133 : (Jvm.Cond.methodLink "ClauseCourt" (274 : Nat) ({ cls := "ClauseCourt$Told", name := "<init>", desc := "(LClauseCourt;[I[BLClauseCourt$Part;)V" } : Jvm.MethodName)) ∈ lw_all := lw_g (lw_at lw_m5 17 rfl) rfl
theorem q1154 : (Jvm.Cond.instanceMethod ({ cls := "ClauseCourt", name := "kind", desc := "(I)I" } : Jvm.MethodName)) ∈ lw_all := lw_g (lw_at lw_m5 38 rfl) rfl
theorem q1155 : (Jvm.Cond.selects "ClauseCourt" ({ cls := "ClauseCourt", name := "kind", desc := "(I)I" } : Jvm.MethodName) ({ cls := "ClauseCourt", name := "kind", desc := "(I)I" } : Jvm.MethodName)) ∈ lw_all := lw_g (lw_at lw_m5 39 rfl) rfl
theorem q1156 : (Jvm.Cond.code ({ cls := "ClauseCourt", name := "kind", desc := "(I)I" } : Jvm.MethodName) prog_1_method_40_code (2 : Nat) (Option.some Jvm.ClassFile.FieldType.int)) ∈ lw_all := lw_g (lw_at lw_m5 40 rfl) rfl
theorem q1157 : (Jvm.Cond.methodLink "ClauseCourt" (282 : Nat) ({ cls := "ClauseCourt", name := "isRule", desc := "(I)Z" } : Jvm.MethodName)) ∈ lw_all := lw_g (lw_at lw_m5 41 rfl) rfl
theorem q1158 : (Jvm.Cond.privateMethod ({ cls := "ClauseCourt", name := "isRule", desc := "(I)Z" } : Jvm.MethodName)) ∈ lw_tbl := lw_at lw_m5 42 rfl
theorem q1159 : (Jvm.Cond.instanceMethod ({ cls := "ClauseCourt", name := "isRule", desc := "(I)Z" } : Jvm.MethodName)) ∈ lw_all := lw_g (lw_at lw_m5 43 rfl) rfl
theorem q1160 : (Jvm.Cond.code ({ cls := "ClauseCourt", name := "isRule", desc := "(I)Z" } : Jvm.MethodName) prog_1_method_31_code (2 : Nat) (Option.some Jvm.ClassFile.FieldType.boolean)) ∈ lw_all := lw_g (lw_at lw_m5 44 rfl) rfl
theorem q1162 : (Jvm.Cond.instanceMethod ({ cls := "ClauseCourt", name := "as", desc := "(II)I" } : Jvm.MethodName)) ∈ lw_all := lw_g (lw_at lw_m5 46 rfl) rfl
theorem q1163 : (Jvm.Cond.selects "ClauseCourt" ({ cls := "ClauseCourt", name := "as", desc := "(II)I" } : Jvm.MethodName) ({ cls := "ClauseCourt", name := "as", desc := "(II)I" } : Jvm.MethodName)) ∈ lw_all := lw_g (lw_at lw_m5 47 rfl) rfl
theorem q1164 : (Jvm.Cond.codeWith ({ cls := "ClauseCourt", name := "as", desc := "(II)I" } : Jvm.MethodName) prog_1_method_42_code (4 : Nat) (Option.some Jvm.ClassFile.FieldType.int) [((28 : Nat), (49 : Nat), (50 : Nat), (294 : Nat))]) ∈ lw_all := lw_g (lw_at lw_m5 48 rfl) rfl
theorem q1165 : (Jvm.Cond.classLink "ClauseCourt" (294 : Nat) "java/lang/ClassCastException") ∈ lw_all := lw_g (lw_at lw_m5 49 rfl) rfl
theorem q1179 : (Jvm.Cond.constantLong "ClauseCourt" (288 : Nat) (4 : Int64)) ∈ lw_all := lw_g (lw_at lw_m5 63 rfl) rfl
theorem q1180 : (Jvm.Cond.methodLink "ClauseCourt" (290 : Nat) ({ cls := "ClauseCourt", name := "taken", desc := "(LClauseCourt$Rule;I)LClauseCourt$Rule;" } : Jvm.MethodName)) ∈ lw_all := lw_g (lw_at lw_m5 64 rfl) rfl
theorem q1181 : (Jvm.Cond.static ({ cls := "ClauseCourt", name := "taken", desc := "(LClauseCourt$Rule;I)LClauseCourt$Rule;" } : Jvm.MethodName)) ∈ lw_all := lw_g (lw_at lw_m5 65 rfl) rfl
theorem q1182 : (Jvm.Cond.code ({ cls := "ClauseCourt", name := "taken", desc := "(LClauseCourt$Rule;I)LClauseCourt$Rule;" } : Jvm.MethodName) prog_1_method_41_code (2 : Nat) (Option.some (Jvm.ClassFile.FieldType.object "ClauseCourt$Rule"))) ∈ lw_all := lw_g (lw_at lw_m5 66 rfl) rfl
theorem q1184 : (Jvm.Cond.instanceMethod ({ cls := "ClauseCourt", name := "item", desc := "(II)I" } : Jvm.MethodName)) ∈ lw_all := lw_g (lw_at lw_m5 68 rfl) rfl
theorem q1185 : (Jvm.Cond.selects "ClauseCourt" ({ cls := "ClauseCourt", name := "item", desc := "(II)I" } : Jvm.MethodName) ({ cls := "ClauseCourt", name := "item", desc := "(II)I" } : Jvm.MethodName)) ∈ lw_all := lw_g (lw_at lw_m5 69 rfl) rfl
theorem q1186 : (Jvm.Cond.code ({ cls := "ClauseCourt", name := "item", desc := "(II)I" } : Jvm.MethodName) prog_1_method_43_code (4 : Nat) (Option.some Jvm.ClassFile.FieldType.int)) ∈ lw_all := lw_g (lw_at lw_m5 70 rfl) rfl
theorem q1188 : (Jvm.Cond.instanceMethod ({ cls := "ClauseCourt", name := "rows", desc := "(II)I" } : Jvm.MethodName)) ∈ lw_all := lw_g (lw_at lw_m5 72 rfl) rfl
theorem q1189 : (Jvm.Cond.selects "ClauseCourt" ({ cls := "ClauseCourt", name := "rows", desc := "(II)I" } : Jvm.MethodName) ({ cls := "ClauseCourt", name := "rows", desc := "(II)I" } : Jvm.MethodName)) ∈ lw_all := lw_g (lw_at lw_m5 73 rfl) rfl
theorem q1190 : (Jvm.Cond.code ({ cls := "ClauseCourt", name := "rows", desc := "(II)I" } : Jvm.MethodName) prog_1_method_44_code (3 : Nat) (Option.some Jvm.ClassFile.FieldType.int)) ∈ lw_all := lw_g (lw_at lw_m5 74 rfl) rfl
theorem q1192 : (Jvm.Cond.instanceMethod ({ cls := "ClauseCourt", name := "ask", desc := "(II)I" } : Jvm.MethodName)) ∈ lw_all := lw_g (lw_at lw_m5 76 rfl) rfl
theorem q1193 : (Jvm.Cond.selects "ClauseCourt" ({ cls := "ClauseCourt", name := "ask", desc := "(II)I" } : Jvm.MethodName) ({ cls := "ClauseCourt", name := "ask", desc := "(II)I" } : Jvm.MethodName)) ∈ lw_all := lw_g (lw_at lw_m5 77 rfl) rfl
theorem q1194 : (Jvm.Cond.code ({ cls := "ClauseCourt", name := "ask", desc := "(II)I" } : Jvm.MethodName) prog_1_method_45_code (3 : Nat) (Option.some Jvm.ClassFile.FieldType.int)) ∈ lw_all := lw_g (lw_at lw_m5 78 rfl) rfl
theorem q1195 : (Jvm.Cond.constantLong "ClauseCourt" (299 : Nat) (3 : Int64)) ∈ lw_all := lw_g (lw_at lw_m5 79 rfl) rfl
theorem q1196 : (Jvm.Cond.methodLink "ClauseCourt" (306 : Nat) ({ cls := "ClauseCourt$Rule", name := "holds", desc := "(LClauseCourt$Truth;)Z" } : Jvm.MethodName)) ∈ lw_all := lw_g (lw_at lw_m5 80 rfl) rfl
theorem q1203 : (Jvm.Cond.privateMethod ({ cls := "ClauseCourt", name := "body", desc := "(I)V" } : Jvm.MethodName)) ∈ lw_tbl := lw_at lw_m5 87 rfl
theorem q1204 : (Jvm.Cond.instanceMethod ({ cls := "ClauseCourt", name := "body", desc := "(I)V" } : Jvm.MethodName)) ∈ lw_all := lw_g (lw_at lw_m5 88 rfl) rfl
theorem q1205 : (Jvm.Cond.code ({ cls := "ClauseCourt", name := "body", desc := "(I)V" } : Jvm.MethodName) prog_1_method_17_code (2 : Nat) (Option.none : Option Jvm.ClassFile.FieldType)) ∈ lw_all := lw_g (lw_at lw_m5 89 rfl) rfl
theorem q1252 : (Jvm.Cond.methodLink "ClauseCourt" (310 : Nat) ({ cls := "ClauseCourt$Rule", name := "least", desc := "()I" } : Jvm.MethodName)) ∈ lw_all := lw_g (lw_at lw_m5 136 rfl) rfl
theorem q1273 : (Jvm.Cond.methodLink "ClauseCourt" (313 : Nat) ({ cls := "ClauseCourt$Rule", name := "most", desc := "()I" } : Jvm.MethodName)) ∈ lw_all := lw_g (lw_at lw_m5 157 rfl) rfl
theorem q1292 : (Jvm.Cond.methodLink "ClauseCourt" (316 : Nat) ({ cls := "ClauseCourt$Rule", name := "laid", desc := "()I" } : Jvm.MethodName)) ∈ lw_all := lw_g (lw_at lw_m5 176 rfl) rfl
theorem q1302 : (Jvm.Cond.instanceMethod ({ cls := "ClauseCourt", name := "print", desc := "(I)I" } : Jvm.MethodName)) ∈ lw_all := lw_g (lw_at lw_m5 186 rfl) rfl
theorem q1303 : (Jvm.Cond.selects "ClauseCourt" ({ cls := "ClauseCourt", name := "print", desc := "(I)I" } : Jvm.MethodName) ({ cls := "ClauseCourt", name := "print", desc := "(I)I" } : Jvm.MethodName)) ∈ lw_all := lw_g (lw_at lw_m5 187 rfl) rfl
theorem q1304 : (Jvm.Cond.code ({ cls := "ClauseCourt", name := "print", desc := "(I)I" } : Jvm.MethodName) prog_1_method_46_code (2 : Nat) (Option.some Jvm.ClassFile.FieldType.int)) ∈ lw_all := lw_g (lw_at lw_m5 188 rfl) rfl
theorem q1305 : (Jvm.Cond.methodLink "ClauseCourt" (318 : Nat) ({ cls := "ClauseCourt$Rule", name := "print", desc := "()V" } : Jvm.MethodName)) ∈ lw_all := lw_g (lw_at lw_m5 189 rfl) rfl
theorem q1313 : (Jvm.Cond.privateMethod ({ cls := "ClauseCourt", name := "say", desc := "(Ljava/lang/String;)V" } : Jvm.MethodName)) ∈ lw_tbl := lw_at lw_m5 197 rfl
theorem q1314 : (Jvm.Cond.instanceMethod ({ cls := "ClauseCourt", name := "say", desc := "(Ljava/lang/String;)V" } : Jvm.MethodName)) ∈ lw_all := lw_g (lw_at lw_m5 198 rfl) rfl
theorem q1315 : (Jvm.Cond.code ({ cls := "ClauseCourt", name := "say", desc := "(Ljava/lang/String;)V" } : Jvm.MethodName) prog_1_method_20_code (3 : Nat) (Option.none : Option Jvm.ClassFile.FieldType)) ∈ lw_all := lw_g (lw_at lw_m5 199 rfl) rfl
theorem q1316 : (Jvm.Cond.methodLink "ClauseCourt" (165 : Nat) ({ cls := "java/lang/String", name := "length", desc := "()I" } : Jvm.MethodName)) ∈ lw_all := lw_g (lw_at lw_m5 200 rfl) rfl
theorem q1326 : (Jvm.Cond.methodLink "ClauseCourt" (171 : Nat) ({ cls := "java/lang/String", name := "charAt", desc := "(I)C" } : Jvm.MethodName)) ∈ lw_all := lw_g (lw_at lw_m5 210 rfl) rfl
theorem q1364 : (Jvm.Cond.methodLink "ClauseCourt" (175 : Nat) ({ cls := "ClauseCourt", name := "say", desc := "(I)V" } : Jvm.MethodName)) ∈ lw_all := lw_g (lw_at lw_m6 8 rfl) rfl
theorem q1365 : (Jvm.Cond.privateMethod ({ cls := "ClauseCourt", name := "say", desc := "(I)V" } : Jvm.MethodName)) ∈ lw_tbl := lw_at lw_m6 9 rfl
theorem q1366 : (Jvm.Cond.instanceMethod ({ cls := "ClauseCourt", name := "say", desc := "(I)V" } : Jvm.MethodName)) ∈ lw_all := lw_g (lw_at lw_m6 10 rfl) rfl
theorem q1367 : (Jvm.Cond.code ({ cls := "ClauseCourt", name := "say", desc := "(I)V" } : Jvm.MethodName) prog_1_method_19_code (2 : Nat) (Option.none : Option Jvm.ClassFile.FieldType)) ∈ lw_all := lw_g (lw_at lw_m6 11 rfl) rfl
theorem q1369 : (Jvm.Cond.privateMethod ({ cls := "ClauseCourt", name := "sayNumber", desc := "(I)V" } : Jvm.MethodName)) ∈ lw_tbl := lw_at lw_m6 13 rfl
theorem q1370 : (Jvm.Cond.instanceMethod ({ cls := "ClauseCourt", name := "sayNumber", desc := "(I)V" } : Jvm.MethodName)) ∈ lw_all := lw_g (lw_at lw_m6 14 rfl) rfl
theorem q1371 : (Jvm.Cond.code ({ cls := "ClauseCourt", name := "sayNumber", desc := "(I)V" } : Jvm.MethodName) prog_1_method_21_code (3 : Nat) (Option.none : Option Jvm.ClassFile.FieldType)) ∈ lw_all := lw_g (lw_at lw_m6 15 rfl) rfl
theorem q1481 : (Jvm.Cond.instanceMethod ({ cls := "ClauseCourt", name := "export", desc := "()I" } : Jvm.MethodName)) ∈ lw_all := lw_g (lw_at lw_m6 125 rfl) rfl
theorem q1482 : (Jvm.Cond.selects "ClauseCourt" ({ cls := "ClauseCourt", name := "export", desc := "()I" } : Jvm.MethodName) ({ cls := "ClauseCourt", name := "export", desc := "()I" } : Jvm.MethodName)) ∈ lw_all := lw_g (lw_at lw_m6 126 rfl) rfl
theorem q1483 : (Jvm.Cond.code ({ cls := "ClauseCourt", name := "export", desc := "()I" } : Jvm.MethodName) prog_1_method_47_code (3 : Nat) (Option.some Jvm.ClassFile.FieldType.int)) ∈ lw_all := lw_g (lw_at lw_m6 127 rfl) rfl
theorem q1484 : (Jvm.Cond.methodLink "ClauseCourt" (321 : Nat) ({ cls := "ClauseCourt", name := "sayNumber", desc := "(I)V" } : Jvm.MethodName)) ∈ lw_all := lw_g (lw_at lw_m6 128 rfl) rfl
theorem q1486 : (Jvm.Cond.instanceMethod ({ cls := "ClauseCourt", name := "assume", desc := "(I)I" } : Jvm.MethodName)) ∈ lw_all := lw_g (lw_at lw_m6 130 rfl) rfl
theorem q1487 : (Jvm.Cond.selects "ClauseCourt" ({ cls := "ClauseCourt", name := "assume", desc := "(I)I" } : Jvm.MethodName) ({ cls := "ClauseCourt", name := "assume", desc := "(I)I" } : Jvm.MethodName)) ∈ lw_all := lw_g (lw_at lw_m6 131 rfl) rfl
theorem q1488 : (Jvm.Cond.codeWith ({ cls := "ClauseCourt", name := "assume", desc := "(I)I" } : Jvm.MethodName) prog_1_method_48_code (5 : Nat) (Option.some Jvm.ClassFile.FieldType.int) [((0 : Nat), (56 : Nat), (106 : Nat), (138 : Nat)), ((57 : Nat), (73 : Nat), (106 : Nat), (138 : Nat)), ((74 : Nat), (105 : Nat), (106 : Nat), (138 : Nat)), ((0 : Nat), (56 : Nat), (115 : Nat), (140 : Nat)), ((57 : Nat), (73 : Nat), (115 : Nat), (140 : Nat)), ((74 : Nat), (105 : Nat), (115 : Nat), (140 : Nat))]) ∈ lw_all := lw_g (lw_at lw_m6 132 rfl) rfl
theorem q1490 : (Jvm.Cond.instanceMethod ({ cls := "ClauseCourt", name := "free", desc := "()I" } : Jvm.MethodName)) ∈ lw_all := lw_g (lw_at lw_m6 134 rfl) rfl
theorem q1491 : (Jvm.Cond.selects "ClauseCourt" ({ cls := "ClauseCourt", name := "free", desc := "()I" } : Jvm.MethodName) ({ cls := "ClauseCourt", name := "free", desc := "()I" } : Jvm.MethodName)) ∈ lw_all := lw_g (lw_at lw_m6 135 rfl) rfl
theorem q1492 : (Jvm.Cond.code ({ cls := "ClauseCourt", name := "free", desc := "()I" } : Jvm.MethodName) prog_1_method_49_code (2 : Nat) (Option.some Jvm.ClassFile.FieldType.int)) ∈ lw_all := lw_g (lw_at lw_m6 136 rfl) rfl
theorem q1494 : (Jvm.Cond.instanceMethod ({ cls := "ClauseCourt", name := "weight", desc := "(II)I" } : Jvm.MethodName)) ∈ lw_all := lw_g (lw_at lw_m6 138 rfl) rfl
theorem q1495 : (Jvm.Cond.selects "ClauseCourt" ({ cls := "ClauseCourt", name := "weight", desc := "(II)I" } : Jvm.MethodName) ({ cls := "ClauseCourt", name := "weight", desc := "(II)I" } : Jvm.MethodName)) ∈ lw_all := lw_g (lw_at lw_m6 139 rfl) rfl
theorem q1496 : (Jvm.Cond.code ({ cls := "ClauseCourt", name := "weight", desc := "(II)I" } : Jvm.MethodName) prog_1_method_50_code (4 : Nat) (Option.some Jvm.ClassFile.FieldType.int)) ∈ lw_all := lw_g (lw_at lw_m6 140 rfl) rfl
theorem q1497 : (Jvm.Cond.methodLink "ClauseCourt" (327 : Nat) ({ cls := "ClauseCourt", name := "isName", desc := "(I)Z" } : Jvm.MethodName)) ∈ lw_all := lw_g (lw_at lw_m6 141 rfl) rfl
theorem q1498 : (Jvm.Cond.privateMethod ({ cls := "ClauseCourt", name := "isName", desc := "(I)Z" } : Jvm.MethodName)) ∈ lw_tbl := lw_at lw_m6 142 rfl
theorem q1499 : (Jvm.Cond.instanceMethod ({ cls := "ClauseCourt", name := "isName", desc := "(I)Z" } : Jvm.MethodName)) ∈ lw_all := lw_g (lw_at lw_m6 143 rfl) rfl
theorem q1500 : (Jvm.Cond.code ({ cls := "ClauseCourt", name := "isName", desc := "(I)Z" } : Jvm.MethodName) prog_1_method_5_code (2 : Nat) (Option.some Jvm.ClassFile.FieldType.boolean)) ∈ lw_all := lw_g (lw_at lw_m6 144 rfl) rfl
theorem q1501 : (Jvm.Cond.constantLong "ClauseCourt" (330 : Nat) (1000 : Int64)) ∈ lw_all := lw_g (lw_at lw_m6 145 rfl) rfl
theorem q1503 : (Jvm.Cond.instanceMethod ({ cls := "ClauseCourt", name := "weighs", desc := "(I)J" } : Jvm.MethodName)) ∈ lw_all := lw_g (lw_at lw_m6 147 rfl) rfl
theorem q1504 : (Jvm.Cond.selects "ClauseCourt" ({ cls := "ClauseCourt", name := "weighs", desc := "(I)J" } : Jvm.MethodName) ({ cls := "ClauseCourt", name := "weighs", desc := "(I)J" } : Jvm.MethodName)) ∈ lw_all := lw_g (lw_at lw_m6 148 rfl) rfl
theorem q1505 : (Jvm.Cond.code ({ cls := "ClauseCourt", name := "weighs", desc := "(I)J" } : Jvm.MethodName) prog_1_method_51_code (2 : Nat) (Option.some Jvm.ClassFile.FieldType.long)) ∈ lw_all := lw_g (lw_at lw_m6 149 rfl) rfl
theorem q1507 : (Jvm.Cond.instanceMethod ({ cls := "ClauseCourt", name := "begin", desc := "(I)I" } : Jvm.MethodName)) ∈ lw_all := lw_g (lw_at lw_m6 151 rfl) rfl
theorem q1508 : (Jvm.Cond.selects "ClauseCourt" ({ cls := "ClauseCourt", name := "begin", desc := "(I)I" } : Jvm.MethodName) ({ cls := "ClauseCourt", name := "begin", desc := "(I)I" } : Jvm.MethodName)) ∈ lw_all := lw_g (lw_at lw_m6 152 rfl) rfl
theorem q1509 : (Jvm.Cond.code ({ cls := "ClauseCourt", name := "begin", desc := "(I)I" } : Jvm.MethodName) prog_1_method_52_code (3 : Nat) (Option.some Jvm.ClassFile.FieldType.int)) ∈ lw_all := lw_g (lw_at lw_m6 153 rfl) rfl
theorem q1510 : (Jvm.Cond.constantLong "ClauseCourt" (342 : Nat) (100 : Int64)) ∈ lw_all := lw_g (lw_at lw_m6 154 rfl) rfl
theorem q1512 : (Jvm.Cond.instanceMethod ({ cls := "ClauseCourt", name := "forget", desc := "(I)I" } : Jvm.MethodName)) ∈ lw_all := lw_g (lw_at lw_m6 156 rfl) rfl
theorem q1513 : (Jvm.Cond.selects "ClauseCourt" ({ cls := "ClauseCourt", name := "forget", desc := "(I)I" } : Jvm.MethodName) ({ cls := "ClauseCourt", name := "forget", desc := "(I)I" } : Jvm.MethodName)) ∈ lw_all := lw_g (lw_at lw_m6 157 rfl) rfl
theorem q1514 : (Jvm.Cond.code ({ cls := "ClauseCourt", name := "forget", desc := "(I)I" } : Jvm.MethodName) prog_1_method_53_code (3 : Nat) (Option.some Jvm.ClassFile.FieldType.int)) ∈ lw_all := lw_g (lw_at lw_m6 158 rfl) rfl
theorem q1515 : (Jvm.Cond.constantLong "ClauseCourt" (347 : Nat) (800 : Int64)) ∈ lw_all := lw_g (lw_at lw_m6 159 rfl) rfl
theorem q1517 : (Jvm.Cond.instanceMethod ({ cls := "ClauseCourt", name := "solve", desc := "(I)I" } : Jvm.MethodName)) ∈ lw_all := lw_g (lw_at lw_m6 161 rfl) rfl
theorem q1518 : (Jvm.Cond.selects "ClauseCourt" ({ cls := "ClauseCourt", name := "solve", desc := "(I)I" } : Jvm.MethodName) ({ cls := "ClauseCourt", name := "solve", desc := "(I)I" } : Jvm.MethodName)) ∈ lw_all := lw_g (lw_at lw_m6 162 rfl) rfl
theorem q1519 : (Jvm.Cond.code ({ cls := "ClauseCourt", name := "solve", desc := "(I)I" } : Jvm.MethodName) prog_1_method_56_code (3 : Nat) (Option.some Jvm.ClassFile.FieldType.int)) ∈ lw_all := lw_g (lw_at lw_m6 163 rfl) rfl
theorem q1520 : (Jvm.Cond.constantLong "ClauseCourt" (369 : Nat) (5000 : Int64)) ∈ lw_all := lw_g (lw_at lw_m6 164 rfl) rfl
theorem q1521 : (Jvm.Cond.methodLink "ClauseCourt" (371 : Nat) ({ cls := "ClauseCourt", name := "beginMain", desc := "()V" } : Jvm.MethodName)) ∈ lw_all := lw_g (lw_at lw_m6 165 rfl) rfl
theorem q1522 : (Jvm.Cond.privateMethod ({ cls := "ClauseCourt", name := "beginMain", desc := "()V" } : Jvm.MethodName)) ∈ lw_tbl := lw_at lw_m6 166 rfl
theorem q1523 : (Jvm.Cond.instanceMethod ({ cls := "ClauseCourt", name := "beginMain", desc := "()V" } : Jvm.MethodName)) ∈ lw_all := lw_g (lw_at lw_m6 167 rfl) rfl
theorem q1524 : (Jvm.Cond.code ({ cls := "ClauseCourt", name := "beginMain", desc := "()V" } : Jvm.MethodName) prog_1_method_54_code (1 : Nat) (Option.none : Option Jvm.ClassFile.FieldType)) ∈ lw_all := lw_g (lw_at lw_m6 168 rfl) rfl
theorem q1525 : (Jvm.Cond.methodLink "ClauseCourt" (352 : Nat) ({ cls := "ClauseCourt$Engine", name := "clear", desc := "()V" } : Jvm.MethodName)) ∈ lw_all := lw_g (lw_at lw_m6 169 rfl) rfl
theorem q1530 : (Jvm.Cond.methodLink "ClauseCourt" (355 : Nat) ({ cls := "ClauseCourt$Engine", name := "layCase", desc := "([Z)V" } : Jvm.MethodName)) ∈ lw_all := lw_g (lw_at lw_m6 174 rfl) rfl
theorem q1552 : (Jvm.Cond.methodLink "ClauseCourt" (379 : Nat) ({ cls := "ClauseCourt", name := "searched", desc := "(I)I" } : Jvm.MethodName)) ∈ lw_all := lw_g (lw_at lw_m6 196 rfl) rfl
theorem q1553 : (Jvm.Cond.privateMethod ({ cls := "ClauseCourt", name := "searched", desc := "(I)I" } : Jvm.MethodName)) ∈ lw_tbl := lw_at lw_m6 197 rfl
theorem q1554 : (Jvm.Cond.instanceMethod ({ cls := "ClauseCourt", name := "searched", desc := "(I)I" } : Jvm.MethodName)) ∈ lw_all := lw_g (lw_at lw_m6 198 rfl) rfl
theorem q1555 : (Jvm.Cond.code ({ cls := "ClauseCourt", name := "searched", desc := "(I)I" } : Jvm.MethodName) prog_1_method_55_code (4 : Nat) (Option.some Jvm.ClassFile.FieldType.int)) ∈ lw_all := lw_g (lw_at lw_m6 199 rfl) rfl
theorem q1556 : (Jvm.Cond.methodLink "ClauseCourt" (360 : Nat) ({ cls := "ClauseCourt$Engine", name := "search", desc := "(I)I" } : Jvm.MethodName)) ∈ lw_all := lw_g (lw_at lw_m6 200 rfl) rfl
theorem q1702 : (Jvm.Cond.instanceMethod ({ cls := "ClauseCourt", name := "goOn", desc := "(I)I" } : Jvm.MethodName)) ∈ lw_all := lw_g (lw_at lw_m7 106 rfl) rfl
theorem q1703 : (Jvm.Cond.selects "ClauseCourt" ({ cls := "ClauseCourt", name := "goOn", desc := "(I)I" } : Jvm.MethodName) ({ cls := "ClauseCourt", name := "goOn", desc := "(I)I" } : Jvm.MethodName)) ∈ lw_all := lw_g (lw_at lw_m7 107 rfl) rfl
theorem q1704 : (Jvm.Cond.code ({ cls := "ClauseCourt", name := "goOn", desc := "(I)I" } : Jvm.MethodName) prog_1_method_57_code (3 : Nat) (Option.some Jvm.ClassFile.FieldType.int)) ∈ lw_all := lw_g (lw_at lw_m7 108 rfl) rfl
theorem q1706 : (Jvm.Cond.instanceMethod ({ cls := "ClauseCourt", name := "truth", desc := "(I)I" } : Jvm.MethodName)) ∈ lw_all := lw_g (lw_at lw_m7 110 rfl) rfl
theorem q1707 : (Jvm.Cond.selects "ClauseCourt" ({ cls := "ClauseCourt", name := "truth", desc := "(I)I" } : Jvm.MethodName) ({ cls := "ClauseCourt", name := "truth", desc := "(I)I" } : Jvm.MethodName)) ∈ lw_all := lw_g (lw_at lw_m7 111 rfl) rfl
theorem q1708 : (Jvm.Cond.code ({ cls := "ClauseCourt", name := "truth", desc := "(I)I" } : Jvm.MethodName) prog_1_method_58_code (2 : Nat) (Option.some Jvm.ClassFile.FieldType.int)) ∈ lw_all := lw_g (lw_at lw_m7 112 rfl) rfl
theorem q1710 : (Jvm.Cond.instanceMethod ({ cls := "ClauseCourt", name := "solved", desc := "(I)I" } : Jvm.MethodName)) ∈ lw_all := lw_g (lw_at lw_m7 114 rfl) rfl
theorem q1711 : (Jvm.Cond.selects "ClauseCourt" ({ cls := "ClauseCourt", name := "solved", desc := "(I)I" } : Jvm.MethodName) ({ cls := "ClauseCourt", name := "solved", desc := "(I)I" } : Jvm.MethodName)) ∈ lw_all := lw_g (lw_at lw_m7 115 rfl) rfl
theorem q1712 : (Jvm.Cond.code ({ cls := "ClauseCourt", name := "solved", desc := "(I)I" } : Jvm.MethodName) prog_1_method_59_code (2 : Nat) (Option.some Jvm.ClassFile.FieldType.int)) ∈ lw_all := lw_g (lw_at lw_m7 116 rfl) rfl
theorem q1714 : (Jvm.Cond.instanceMethod ({ cls := "ClauseCourt", name := "quarrel", desc := "(I)I" } : Jvm.MethodName)) ∈ lw_all := lw_g (lw_at lw_m7 118 rfl) rfl
theorem q1715 : (Jvm.Cond.selects "ClauseCourt" ({ cls := "ClauseCourt", name := "quarrel", desc := "(I)I" } : Jvm.MethodName) ({ cls := "ClauseCourt", name := "quarrel", desc := "(I)I" } : Jvm.MethodName)) ∈ lw_all := lw_g (lw_at lw_m7 119 rfl) rfl
theorem q1716 : (Jvm.Cond.code ({ cls := "ClauseCourt", name := "quarrel", desc := "(I)I" } : Jvm.MethodName) prog_1_method_60_code (2 : Nat) (Option.some Jvm.ClassFile.FieldType.int)) ∈ lw_all := lw_g (lw_at lw_m7 120 rfl) rfl
theorem q1718 : (Jvm.Cond.instanceMethod ({ cls := "ClauseCourt", name := "line", desc := "(II)I" } : Jvm.MethodName)) ∈ lw_all := lw_g (lw_at lw_m7 122 rfl) rfl
theorem q1719 : (Jvm.Cond.selects "ClauseCourt" ({ cls := "ClauseCourt", name := "line", desc := "(II)I" } : Jvm.MethodName) ({ cls := "ClauseCourt", name := "line", desc := "(II)I" } : Jvm.MethodName)) ∈ lw_all := lw_g (lw_at lw_m7 123 rfl) rfl
theorem q1720 : (Jvm.Cond.code ({ cls := "ClauseCourt", name := "line", desc := "(II)I" } : Jvm.MethodName) prog_1_method_61_code (4 : Nat) (Option.some Jvm.ClassFile.FieldType.int)) ∈ lw_all := lw_g (lw_at lw_m7 124 rfl) rfl
theorem q1721 : (Jvm.Cond.methodLink "ClauseCourt" (424 : Nat) ({ cls := "ClauseCourt", name := "at", desc := "([IIII)I" } : Jvm.MethodName)) ∈ lw_all := lw_g (lw_at lw_m7 125 rfl) rfl
theorem q1722 : (Jvm.Cond.static ({ cls := "ClauseCourt", name := "at", desc := "([IIII)I" } : Jvm.MethodName)) ∈ lw_all := lw_g (lw_at lw_m7 126 rfl) rfl
theorem q1723 : (Jvm.Cond.code ({ cls := "ClauseCourt", name := "at", desc := "([IIII)I" } : Jvm.MethodName) prog_1_method_62_code (4 : Nat) (Option.some Jvm.ClassFile.FieldType.int)) ∈ lw_all := lw_g (lw_at lw_m7 127 rfl) rfl
theorem q1724 : (Jvm.Cond.constantLong "ClauseCourt" (431 : Nat) (2000 : Int64)) ∈ lw_all := lw_g (lw_at lw_m7 128 rfl) rfl
theorem q1726 : (Jvm.Cond.instanceMethod ({ cls := "ClauseCourt", name := "core", desc := "(I)I" } : Jvm.MethodName)) ∈ lw_all := lw_g (lw_at lw_m7 130 rfl) rfl
theorem q1727 : (Jvm.Cond.selects "ClauseCourt" ({ cls := "ClauseCourt", name := "core", desc := "(I)I" } : Jvm.MethodName) ({ cls := "ClauseCourt", name := "core", desc := "(I)I" } : Jvm.MethodName)) ∈ lw_all := lw_g (lw_at lw_m7 131 rfl) rfl
theorem q1728 : (Jvm.Cond.code ({ cls := "ClauseCourt", name := "core", desc := "(I)I" } : Jvm.MethodName) prog_1_method_66_code (2 : Nat) (Option.some Jvm.ClassFile.FieldType.int)) ∈ lw_all := lw_g (lw_at lw_m7 132 rfl) rfl
theorem q1729 : (Jvm.Cond.methodLink "ClauseCourt" (448 : Nat) ({ cls := "ClauseCourt", name := "hasCore", desc := "()Z" } : Jvm.MethodName)) ∈ lw_all := lw_g (lw_at lw_m7 133 rfl) rfl
theorem q1730 : (Jvm.Cond.privateMethod ({ cls := "ClauseCourt", name := "hasCore", desc := "()Z" } : Jvm.MethodName)) ∈ lw_tbl := lw_at lw_m7 134 rfl
theorem q1731 : (Jvm.Cond.instanceMethod ({ cls := "ClauseCourt", name := "hasCore", desc := "()Z" } : Jvm.MethodName)) ∈ lw_all := lw_g (lw_at lw_m7 135 rfl) rfl
theorem q1732 : (Jvm.Cond.code ({ cls := "ClauseCourt", name := "hasCore", desc := "()Z" } : Jvm.MethodName) prog_1_method_63_code (1 : Nat) (Option.some Jvm.ClassFile.FieldType.boolean)) ∈ lw_all := lw_g (lw_at lw_m7 136 rfl) rfl
theorem q1733 : (Jvm.Cond.methodLink "ClauseCourt" (452 : Nat) ({ cls := "ClauseCourt", name := "coreRows", desc := "()I" } : Jvm.MethodName)) ∈ lw_all := lw_g (lw_at lw_m7 137 rfl) rfl
theorem q1734 : (Jvm.Cond.privateMethod ({ cls := "ClauseCourt", name := "coreRows", desc := "()I" } : Jvm.MethodName)) ∈ lw_tbl := lw_at lw_m7 138 rfl
theorem q1735 : (Jvm.Cond.instanceMethod ({ cls := "ClauseCourt", name := "coreRows", desc := "()I" } : Jvm.MethodName)) ∈ lw_all := lw_g (lw_at lw_m7 139 rfl) rfl
theorem q1736 : (Jvm.Cond.code ({ cls := "ClauseCourt", name := "coreRows", desc := "()I" } : Jvm.MethodName) prog_1_method_65_code (3 : Nat) (Option.some Jvm.ClassFile.FieldType.int)) ∈ lw_all := lw_g (lw_at lw_m7 140 rfl) rfl
theorem q1737 : (Jvm.Cond.methodLink "ClauseCourt" (445 : Nat) ({ cls := "ClauseCourt", name := "inCore", desc := "(I)Z" } : Jvm.MethodName)) ∈ lw_all := lw_g (lw_at lw_m7 141 rfl) rfl
theorem q1738 : (Jvm.Cond.privateMethod ({ cls := "ClauseCourt", name := "inCore", desc := "(I)Z" } : Jvm.MethodName)) ∈ lw_tbl := lw_at lw_m7 142 rfl
theorem q1739 : (Jvm.Cond.instanceMethod ({ cls := "ClauseCourt", name := "inCore", desc := "(I)Z" } : Jvm.MethodName)) ∈ lw_all := lw_g (lw_at lw_m7 143 rfl) rfl
theorem q1740 : (Jvm.Cond.code ({ cls := "ClauseCourt", name := "inCore", desc := "(I)Z" } : Jvm.MethodName) prog_1_method_64_code (2 : Nat) (Option.some Jvm.ClassFile.FieldType.boolean)) ∈ lw_all := lw_g (lw_at lw_m7 144 rfl) rfl
theorem q1742 : (Jvm.Cond.instanceMethod ({ cls := "ClauseCourt", name := "coreAt", desc := "(II)I" } : Jvm.MethodName)) ∈ lw_all := lw_g (lw_at lw_m7 146 rfl) rfl
theorem q1743 : (Jvm.Cond.selects "ClauseCourt" ({ cls := "ClauseCourt", name := "coreAt", desc := "(II)I" } : Jvm.MethodName) ({ cls := "ClauseCourt", name := "coreAt", desc := "(II)I" } : Jvm.MethodName)) ∈ lw_all := lw_g (lw_at lw_m7 147 rfl) rfl
theorem q1744 : (Jvm.Cond.code ({ cls := "ClauseCourt", name := "coreAt", desc := "(II)I" } : Jvm.MethodName) prog_1_method_67_code (5 : Nat) (Option.some Jvm.ClassFile.FieldType.int)) ∈ lw_all := lw_g (lw_at lw_m7 148 rfl) rfl
theorem q1746 : (Jvm.Cond.instanceMethod ({ cls := "ClauseCourt", name := "shrink", desc := "(I)I" } : Jvm.MethodName)) ∈ lw_all := lw_g (lw_at lw_m7 150 rfl) rfl
theorem q1747 : (Jvm.Cond.selects "ClauseCourt" ({ cls := "ClauseCourt", name := "shrink", desc := "(I)I" } : Jvm.MethodName) ({ cls := "ClauseCourt", name := "shrink", desc := "(I)I" } : Jvm.MethodName)) ∈ lw_all := lw_g (lw_at lw_m7 151 rfl) rfl
theorem q1748 : (Jvm.Cond.code ({ cls := "ClauseCourt", name := "shrink", desc := "(I)I" } : Jvm.MethodName) prog_1_method_70_code (5 : Nat) (Option.some Jvm.ClassFile.FieldType.int)) ∈ lw_all := lw_g (lw_at lw_m7 152 rfl) rfl
theorem q1749 : (Jvm.Cond.methodLink "ClauseCourt" (461 : Nat) ({ cls := "ClauseCourt", name := "beginSide", desc := "()V" } : Jvm.MethodName)) ∈ lw_all := lw_g (lw_at lw_m7 153 rfl) rfl
theorem q1750 : (Jvm.Cond.privateMethod ({ cls := "ClauseCourt", name := "beginSide", desc := "()V" } : Jvm.MethodName)) ∈ lw_tbl := lw_at lw_m7 154 rfl
theorem q1751 : (Jvm.Cond.instanceMethod ({ cls := "ClauseCourt", name := "beginSide", desc := "()V" } : Jvm.MethodName)) ∈ lw_all := lw_g (lw_at lw_m7 155 rfl) rfl
theorem q1752 : (Jvm.Cond.code ({ cls := "ClauseCourt", name := "beginSide", desc := "()V" } : Jvm.MethodName) prog_1_method_68_code (2 : Nat) (Option.none : Option Jvm.ClassFile.FieldType)) ∈ lw_all := lw_g (lw_at lw_m7 156 rfl) rfl
theorem q1753 : (Jvm.Cond.methodLink "ClauseCourt" (464 : Nat) ({ cls := "ClauseCourt", name := "tried", desc := "(II)I" } : Jvm.MethodName)) ∈ lw_all := lw_g (lw_at lw_m7 157 rfl) rfl
theorem q1754 : (Jvm.Cond.privateMethod ({ cls := "ClauseCourt", name := "tried", desc := "(II)I" } : Jvm.MethodName)) ∈ lw_tbl := lw_at lw_m7 158 rfl
theorem q1755 : (Jvm.Cond.instanceMethod ({ cls := "ClauseCourt", name := "tried", desc := "(II)I" } : Jvm.MethodName)) ∈ lw_all := lw_g (lw_at lw_m7 159 rfl) rfl
theorem q1756 : (Jvm.Cond.code ({ cls := "ClauseCourt", name := "tried", desc := "(II)I" } : Jvm.MethodName) prog_1_method_69_code (4 : Nat) (Option.some Jvm.ClassFile.FieldType.int)) ∈ lw_all := lw_g (lw_at lw_m7 160 rfl) rfl
theorem q1757 : (Jvm.Cond.constantLong "ClauseCourt" (470 : Nat) (-1 : Int64)) ∈ lw_all := lw_g (lw_at lw_m7 161 rfl) rfl
theorem q1759 : (Jvm.Cond.instanceMethod ({ cls := "ClauseCourt", name := "least", desc := "(I)I" } : Jvm.MethodName)) ∈ lw_all := lw_g (lw_at lw_m7 163 rfl) rfl
theorem q1760 : (Jvm.Cond.selects "ClauseCourt" ({ cls := "ClauseCourt", name := "least", desc := "(I)I" } : Jvm.MethodName) ({ cls := "ClauseCourt", name := "least", desc := "(I)I" } : Jvm.MethodName)) ∈ lw_all := lw_g (lw_at lw_m7 164 rfl) rfl
theorem q1761 : (Jvm.Cond.code ({ cls := "ClauseCourt", name := "least", desc := "(I)I" } : Jvm.MethodName) prog_1_method_71_code (9 : Nat) (Option.some Jvm.ClassFile.FieldType.int)) ∈ lw_all := lw_g (lw_at lw_m7 165 rfl) rfl
theorem q1762 : (Jvm.Cond.methodLink "ClauseCourt" (472 : Nat) ({ cls := "ClauseCourt", name := "coreAt", desc := "(II)I" } : Jvm.MethodName)) ∈ lw_all := lw_g (lw_at lw_m7 166 rfl) rfl
theorem q1763 : (Jvm.Cond.methodLink "ClauseCourt" (475 : Nat) ({ cls := "java/lang/Integer", name := "bitCount", desc := "(I)I" } : Jvm.MethodName)) ∈ lw_all := lw_g (lw_at lw_m7 167 rfl) rfl
theorem q1770 : (Jvm.Cond.instanceMethod ({ cls := "ClauseCourt", name := "take", desc := "()I" } : Jvm.MethodName)) ∈ lw_all := lw_g (lw_at lw_m7 174 rfl) rfl
theorem q1771 : (Jvm.Cond.selects "ClauseCourt" ({ cls := "ClauseCourt", name := "take", desc := "()I" } : Jvm.MethodName) ({ cls := "ClauseCourt", name := "take", desc := "()I" } : Jvm.MethodName)) ∈ lw_all := lw_g (lw_at lw_m7 175 rfl) rfl
theorem q1772 : (Jvm.Cond.code ({ cls := "ClauseCourt", name := "take", desc := "()I" } : Jvm.MethodName) prog_1_method_72_code (3 : Nat) (Option.some Jvm.ClassFile.FieldType.int)) ∈ lw_all := lw_g (lw_at lw_m7 176 rfl) rfl
theorem q1774 : (Jvm.Cond.instanceMethod ({ cls := "ClauseCourt", name := "claim", desc := "(I)I" } : Jvm.MethodName)) ∈ lw_all := lw_g (lw_at lw_m7 178 rfl) rfl
theorem q1775 : (Jvm.Cond.selects "ClauseCourt" ({ cls := "ClauseCourt", name := "claim", desc := "(I)I" } : Jvm.MethodName) ({ cls := "ClauseCourt", name := "claim", desc := "(I)I" } : Jvm.MethodName)) ∈ lw_all := lw_g (lw_at lw_m7 179 rfl) rfl
theorem q1776 : (Jvm.Cond.codeWith ({ cls := "ClauseCourt", name := "claim", desc := "(I)I" } : Jvm.MethodName) prog_1_method_73_code (7 : Nat) (Option.some Jvm.ClassFile.FieldType.int) [((15 : Nat), (100 : Nat), (166 : Nat), (138 : Nat)), ((101 : Nat), (165 : Nat), (166 : Nat), (138 : Nat)), ((15 : Nat), (100 : Nat), (175 : Nat), (140 : Nat)), ((101 : Nat), (165 : Nat), (175 : Nat), (140 : Nat))]) ∈ lw_all := lw_g (lw_at lw_m7 180 rfl) rfl
theorem q1778 : (Jvm.Cond.instanceMethod ({ cls := "ClauseCourt", name := "strike", desc := "(I)I" } : Jvm.MethodName)) ∈ lw_all := lw_g (lw_at lw_m7 182 rfl) rfl
theorem q1779 : (Jvm.Cond.selects "ClauseCourt" ({ cls := "ClauseCourt", name := "strike", desc := "(I)I" } : Jvm.MethodName) ({ cls := "ClauseCourt", name := "strike", desc := "(I)I" } : Jvm.MethodName)) ∈ lw_all := lw_g (lw_at lw_m7 183 rfl) rfl
theorem q1780 : (Jvm.Cond.code ({ cls := "ClauseCourt", name := "strike", desc := "(I)I" } : Jvm.MethodName) prog_1_method_74_code (4 : Nat) (Option.some Jvm.ClassFile.FieldType.int)) ∈ lw_all := lw_g (lw_at lw_m7 184 rfl) rfl
theorem q1782 : (Jvm.Cond.instanceMethod ({ cls := "ClauseCourt", name := "proof", desc := "(II)I" } : Jvm.MethodName)) ∈ lw_all := lw_g (lw_at lw_m7 186 rfl) rfl
theorem q1783 : (Jvm.Cond.selects "ClauseCourt" ({ cls := "ClauseCourt", name := "proof", desc := "(II)I" } : Jvm.MethodName) ({ cls := "ClauseCourt", name := "proof", desc := "(II)I" } : Jvm.MethodName)) ∈ lw_all := lw_g (lw_at lw_m7 187 rfl) rfl
theorem q1784 : (Jvm.Cond.code ({ cls := "ClauseCourt", name := "proof", desc := "(II)I" } : Jvm.MethodName) prog_1_method_75_code (3 : Nat) (Option.some Jvm.ClassFile.FieldType.int)) ∈ lw_all := lw_g (lw_at lw_m7 188 rfl) rfl
theorem q1786 : (Jvm.Cond.instanceMethod ({ cls := "ClauseCourt", name := "check", desc := "()I" } : Jvm.MethodName)) ∈ lw_all := lw_g (lw_at lw_m7 190 rfl) rfl
theorem q1787 : (Jvm.Cond.selects "ClauseCourt" ({ cls := "ClauseCourt", name := "check", desc := "()I" } : Jvm.MethodName) ({ cls := "ClauseCourt", name := "check", desc := "()I" } : Jvm.MethodName)) ∈ lw_all := lw_g (lw_at lw_m7 191 rfl) rfl
theorem q1788 : (Jvm.Cond.code ({ cls := "ClauseCourt", name := "check", desc := "()I" } : Jvm.MethodName) prog_1_method_78_code (2 : Nat) (Option.some Jvm.ClassFile.FieldType.int)) ∈ lw_all := lw_g (lw_at lw_m7 192 rfl) rfl
theorem q1789 : (Jvm.Cond.methodLink "ClauseCourt" (502 : Nat) ({ cls := "ClauseCourt", name := "follows", desc := "(I)Z" } : Jvm.MethodName)) ∈ lw_all := lw_g (lw_at lw_m7 193 rfl) rfl
theorem q1790 : (Jvm.Cond.privateMethod ({ cls := "ClauseCourt", name := "follows", desc := "(I)Z" } : Jvm.MethodName)) ∈ lw_tbl := lw_at lw_m7 194 rfl
theorem q1791 : (Jvm.Cond.instanceMethod ({ cls := "ClauseCourt", name := "follows", desc := "(I)Z" } : Jvm.MethodName)) ∈ lw_all := lw_g (lw_at lw_m7 195 rfl) rfl
theorem q1792 : (Jvm.Cond.codeWith ({ cls := "ClauseCourt", name := "follows", desc := "(I)Z" } : Jvm.MethodName) prog_1_method_76_code (5 : Nat) (Option.some Jvm.ClassFile.FieldType.boolean) [((30 : Nat), (116 : Nat), (126 : Nat), (0 : Nat)), ((126 : Nat), (128 : Nat), (126 : Nat), (0 : Nat))]) ∈ lw_all := lw_g (lw_at lw_m7 196 rfl) rfl
theorem q1793 : (Jvm.Cond.constant "ClauseCourt" (489 : Nat) (1073741824 : Int32)) ∈ lw_all := lw_g (lw_at lw_m7 197 rfl) rfl
theorem q1794 : (Jvm.Cond.methodLinkNest "ClauseCourt" (490 : Nat) ({ cls := "ClauseCourt$Engine", name := "isTrue", desc := "(I)Z" } : Jvm.MethodName) "ClauseCourt") ∈ lw_tbl := lw_at lw_m7 198 rfl
theorem q1795 : (Jvm.Cond.methodLinkNest "ClauseCourt" (493 : Nat) ({ cls := "ClauseCourt$Engine", name := "set", desc := "(II)V" } : Jvm.MethodName) "ClauseCourt") ∈ lw_tbl := lw_at lw_m7 199 rfl
theorem q1796 : (Jvm.Cond.methodLink "ClauseCourt" (496 : Nat) ({ cls := "ClauseCourt$Engine", name := "force", desc := "()I" } : Jvm.MethodName)) ∈ lw_all := lw_g (lw_at lw_m7 200 rfl) rfl
theorem q1797 : (Jvm.Cond.methodLink "ClauseCourt" (499 : Nat) ({ cls := "ClauseCourt$Engine", name := "back", desc := "(I)V" } : Jvm.MethodName)) ∈ lw_all := lw_g (lw_at lw_m7 201 rfl) rfl
theorem q1798 : (Jvm.Cond.methodLink "ClauseCourt" (505 : Nat) ({ cls := "ClauseCourt$Engine", name := "lay", desc := "(I[III)V" } : Jvm.MethodName)) ∈ lw_all := lw_g (lw_at lw_m7 202 rfl) rfl
theorem q1799 : (Jvm.Cond.methodLink "ClauseCourt" (508 : Nat) ({ cls := "ClauseCourt", name := "isLastGood", desc := "()Z" } : Jvm.MethodName)) ∈ lw_all := lw_g (lw_at lw_m7 203 rfl) rfl
theorem q1800 : (Jvm.Cond.privateMethod ({ cls := "ClauseCourt", name := "isLastGood", desc := "()Z" } : Jvm.MethodName)) ∈ lw_tbl := lw_at lw_m7 204 rfl
theorem q1801 : (Jvm.Cond.instanceMethod ({ cls := "ClauseCourt", name := "isLastGood", desc := "()Z" } : Jvm.MethodName)) ∈ lw_all := lw_g (lw_at lw_m7 205 rfl) rfl
theorem q1802 : (Jvm.Cond.code ({ cls := "ClauseCourt", name := "isLastGood", desc := "()Z" } : Jvm.MethodName) prog_1_method_77_code (5 : Nat) (Option.some Jvm.ClassFile.FieldType.boolean)) ∈ lw_all := lw_g (lw_at lw_m7 206 rfl) rfl
theorem q1804 : (Jvm.Cond.instanceMethod ({ cls := "ClauseCourt", name := "refusedAt", desc := "()I" } : Jvm.MethodName)) ∈ lw_all := lw_g (lw_at lw_m7 208 rfl) rfl
theorem q1805 : (Jvm.Cond.selects "ClauseCourt" ({ cls := "ClauseCourt", name := "refusedAt", desc := "()I" } : Jvm.MethodName) ({ cls := "ClauseCourt", name := "refusedAt", desc := "()I" } : Jvm.MethodName)) ∈ lw_all := lw_g (lw_at lw_m7 209 rfl) rfl
theorem q1806 : (Jvm.Cond.code ({ cls := "ClauseCourt", name := "refusedAt", desc := "()I" } : Jvm.MethodName) prog_1_method_79_code (1 : Nat) (Option.some Jvm.ClassFile.FieldType.int)) ∈ lw_all := lw_g (lw_at lw_m7 210 rfl) rfl
theorem q1808 : (Jvm.Cond.instanceMethod ({ cls := "ClauseCourt", name := "counted", desc := "(IZ)I" } : Jvm.MethodName)) ∈ lw_all := lw_g (lw_at lw_m7 212 rfl) rfl
theorem q1809 : (Jvm.Cond.selects "ClauseCourt" ({ cls := "ClauseCourt", name := "counted", desc := "(IZ)I" } : Jvm.MethodName) ({ cls := "ClauseCourt", name := "counted", desc := "(IZ)I" } : Jvm.MethodName)) ∈ lw_all := lw_g (lw_at lw_m7 213 rfl) rfl
theorem q1810 : (Jvm.Cond.code ({ cls := "ClauseCourt", name := "counted", desc := "(IZ)I" } : Jvm.MethodName) prog_1_method_81_code (4 : Nat) (Option.some Jvm.ClassFile.FieldType.int)) ∈ lw_all := lw_g (lw_at lw_m7 214 rfl) rfl
theorem q1811 : (Jvm.Cond.methodLink "ClauseCourt" (514 : Nat) ({ cls := "ClauseCourt", name := "countedNames", desc := "()I" } : Jvm.MethodName)) ∈ lw_all := lw_g (lw_at lw_m7 215 rfl) rfl
theorem q1812 : (Jvm.Cond.privateMethod ({ cls := "ClauseCourt", name := "countedNames", desc := "()I" } : Jvm.MethodName)) ∈ lw_tbl := lw_at lw_m7 216 rfl
theorem q1813 : (Jvm.Cond.instanceMethod ({ cls := "ClauseCourt", name := "countedNames", desc := "()I" } : Jvm.MethodName)) ∈ lw_all := lw_g (lw_at lw_m7 217 rfl) rfl
theorem q1814 : (Jvm.Cond.code ({ cls := "ClauseCourt", name := "countedNames", desc := "()I" } : Jvm.MethodName) prog_1_method_80_code (3 : Nat) (Option.some Jvm.ClassFile.FieldType.int)) ∈ lw_all := lw_g (lw_at lw_m7 218 rfl) rfl
theorem q1816 : (Jvm.Cond.instanceMethod ({ cls := "ClauseCourt", name := "next", desc := "(I)I" } : Jvm.MethodName)) ∈ lw_all := lw_g (lw_at lw_m7 220 rfl) rfl
theorem q1817 : (Jvm.Cond.selects "ClauseCourt" ({ cls := "ClauseCourt", name := "next", desc := "(I)I" } : Jvm.MethodName) ({ cls := "ClauseCourt", name := "next", desc := "(I)I" } : Jvm.MethodName)) ∈ lw_all := lw_g (lw_at lw_m7 221 rfl) rfl
theorem q1818 : (Jvm.Cond.code ({ cls := "ClauseCourt", name := "next", desc := "(I)I" } : Jvm.MethodName) prog_1_method_83_code (3 : Nat) (Option.some Jvm.ClassFile.FieldType.int)) ∈ lw_all := lw_g (lw_at lw_m7 222 rfl) rfl
theorem q1819 : (Jvm.Cond.methodLink "ClauseCourt" (517 : Nat) ({ cls := "ClauseCourt", name := "barBy", desc := "(LClauseCourt$Engine;[II)I" } : Jvm.MethodName)) ∈ lw_all := lw_g (lw_at lw_m7 223 rfl) rfl
theorem q1820 : (Jvm.Cond.privateMethod ({ cls := "ClauseCourt", name := "barBy", desc := "(LClauseCourt$Engine;[II)I" } : Jvm.MethodName)) ∈ lw_tbl := lw_at lw_m7 224 rfl
theorem q1821 : (Jvm.Cond.instanceMethod ({ cls := "ClauseCourt", name := "barBy", desc := "(LClauseCourt$Engine;[II)I" } : Jvm.MethodName)) ∈ lw_all := lw_g (lw_at lw_m7 225 rfl) rfl
theorem q1822 : (Jvm.Cond.code ({ cls := "ClauseCourt", name := "barBy", desc := "(LClauseCourt$Engine;[II)I" } : Jvm.MethodName) prog_1_method_82_code (6 : Nat) (Option.some Jvm.ClassFile.FieldType.int)) ∈ lw_all := lw_g (lw_at lw_m7 226 rfl) rfl
theorem q1824 : (Jvm.Cond.instanceMethod ({ cls := "ClauseCourt", name := "unbar", desc := "()I" } : Jvm.MethodName)) ∈ lw_all := lw_g (lw_at lw_m7 228 rfl) rfl
theorem q1825 : (Jvm.Cond.selects "ClauseCourt" ({ cls := "ClauseCourt", name := "unbar", desc := "()I" } : Jvm.MethodName) ({ cls := "ClauseCourt", name := "unbar", desc := "()I" } : Jvm.MethodName)) ∈ lw_all := lw_g (lw_at lw_m7 229 rfl) rfl
theorem q1826 : (Jvm.Cond.code ({ cls := "ClauseCourt", name := "unbar", desc := "()I" } : Jvm.MethodName) prog_1_method_84_code (2 : Nat) (Option.some Jvm.ClassFile.FieldType.int)) ∈ lw_all := lw_g (lw_at lw_m7 230 rfl) rfl
theorem q1828 : (Jvm.Cond.instanceMethod ({ cls := "ClauseCourt", name := "count", desc := "(II)I" } : Jvm.MethodName)) ∈ lw_all := lw_g (lw_at lw_m7 232 rfl) rfl
theorem q1829 : (Jvm.Cond.selects "ClauseCourt" ({ cls := "ClauseCourt", name := "count", desc := "(II)I" } : Jvm.MethodName) ({ cls := "ClauseCourt", name := "count", desc := "(II)I" } : Jvm.MethodName)) ∈ lw_all := lw_g (lw_at lw_m7 233 rfl) rfl
theorem q1830 : (Jvm.Cond.code ({ cls := "ClauseCourt", name := "count", desc := "(II)I" } : Jvm.MethodName) prog_1_method_85_code (6 : Nat) (Option.some Jvm.ClassFile.FieldType.int)) ∈ lw_all := lw_g (lw_at lw_m7 234 rfl) rfl
theorem q1831 : (Jvm.Cond.constantLong "ClauseCourt" (521 : Nat) (64 : Int64)) ∈ lw_all := lw_g (lw_at lw_m7 235 rfl) rfl
theorem q1833 : (Jvm.Cond.instanceMethod ({ cls := "ClauseCourt", name := "forced", desc := "()I" } : Jvm.MethodName)) ∈ lw_all := lw_g (lw_at lw_m7 237 rfl) rfl
theorem q1834 : (Jvm.Cond.selects "ClauseCourt" ({ cls := "ClauseCourt", name := "forced", desc := "()I" } : Jvm.MethodName) ({ cls := "ClauseCourt", name := "forced", desc := "()I" } : Jvm.MethodName)) ∈ lw_all := lw_g (lw_at lw_m7 238 rfl) rfl
theorem q1835 : (Jvm.Cond.code ({ cls := "ClauseCourt", name := "forced", desc := "()I" } : Jvm.MethodName) prog_1_method_87_code (1 : Nat) (Option.some Jvm.ClassFile.FieldType.int)) ∈ lw_all := lw_g (lw_at lw_m7 239 rfl) rfl
theorem q1836 : (Jvm.Cond.methodLink "ClauseCourt" (523 : Nat) ({ cls := "ClauseCourt", name := "forcing", desc := "()I" } : Jvm.MethodName)) ∈ lw_all := lw_g (lw_at lw_m8 0 rfl) rfl
theorem q1837 : (Jvm.Cond.privateMethod ({ cls := "ClauseCourt", name := "forcing", desc := "()I" } : Jvm.MethodName)) ∈ lw_tbl := lw_at lw_m8 1 rfl
theorem q1838 : (Jvm.Cond.instanceMethod ({ cls := "ClauseCourt", name := "forcing", desc := "()I" } : Jvm.MethodName)) ∈ lw_all := lw_g (lw_at lw_m8 2 rfl) rfl
theorem q1839 : (Jvm.Cond.code ({ cls := "ClauseCourt", name := "forcing", desc := "()I" } : Jvm.MethodName) prog_1_method_86_code (1 : Nat) (Option.some Jvm.ClassFile.FieldType.int)) ∈ lw_all := lw_g (lw_at lw_m8 3 rfl) rfl
theorem q1841 : (Jvm.Cond.instanceMethod ({ cls := "ClauseCourt", name := "forcedAt", desc := "(I)I" } : Jvm.MethodName)) ∈ lw_all := lw_g (lw_at lw_m8 5 rfl) rfl
theorem q1842 : (Jvm.Cond.selects "ClauseCourt" ({ cls := "ClauseCourt", name := "forcedAt", desc := "(I)I" } : Jvm.MethodName) ({ cls := "ClauseCourt", name := "forcedAt", desc := "(I)I" } : Jvm.MethodName)) ∈ lw_all := lw_g (lw_at lw_m8 6 rfl) rfl
theorem q1843 : (Jvm.Cond.code ({ cls := "ClauseCourt", name := "forcedAt", desc := "(I)I" } : Jvm.MethodName) prog_1_method_88_code (2 : Nat) (Option.some Jvm.ClassFile.FieldType.int)) ∈ lw_all := lw_g (lw_at lw_m8 7 rfl) rfl
theorem q1845 : (Jvm.Cond.instanceMethod ({ cls := "ClauseCourt", name := "why", desc := "(I)I" } : Jvm.MethodName)) ∈ lw_all := lw_g (lw_at lw_m8 9 rfl) rfl
theorem q1846 : (Jvm.Cond.selects "ClauseCourt" ({ cls := "ClauseCourt", name := "why", desc := "(I)I" } : Jvm.MethodName) ({ cls := "ClauseCourt", name := "why", desc := "(I)I" } : Jvm.MethodName)) ∈ lw_all := lw_g (lw_at lw_m8 10 rfl) rfl
theorem q1847 : (Jvm.Cond.code ({ cls := "ClauseCourt", name := "why", desc := "(I)I" } : Jvm.MethodName) prog_1_method_89_code (2 : Nat) (Option.some Jvm.ClassFile.FieldType.int)) ∈ lw_all := lw_g (lw_at lw_m8 11 rfl) rfl
theorem q1849 : (Jvm.Cond.instanceMethod ({ cls := "ClauseCourt", name := "digest", desc := "()J" } : Jvm.MethodName)) ∈ lw_all := lw_g (lw_at lw_m8 13 rfl) rfl
theorem q1850 : (Jvm.Cond.selects "ClauseCourt" ({ cls := "ClauseCourt", name := "digest", desc := "()J" } : Jvm.MethodName) ({ cls := "ClauseCourt", name := "digest", desc := "()J" } : Jvm.MethodName)) ∈ lw_all := lw_g (lw_at lw_m8 14 rfl) rfl
theorem q1851 : (Jvm.Cond.code ({ cls := "ClauseCourt", name := "digest", desc := "()J" } : Jvm.MethodName) prog_1_method_91_code (6 : Nat) (Option.some Jvm.ClassFile.FieldType.long)) ∈ lw_all := lw_g (lw_at lw_m8 15 rfl) rfl
theorem q1852 : (Jvm.Cond.constantLong "ClauseCourt" (544 : Nat) (7 : Int64)) ∈ lw_all := lw_g (lw_at lw_m8 16 rfl) rfl
theorem q1853 : (Jvm.Cond.methodLink "ClauseCourt" (546 : Nat) ({ cls := "ClauseCourt", name := "sum", desc := "(I)V" } : Jvm.MethodName)) ∈ lw_all := lw_g (lw_at lw_m8 17 rfl) rfl
theorem q1854 : (Jvm.Cond.privateMethod ({ cls := "ClauseCourt", name := "sum", desc := "(I)V" } : Jvm.MethodName)) ∈ lw_tbl := lw_at lw_m8 18 rfl
theorem q1855 : (Jvm.Cond.instanceMethod ({ cls := "ClauseCourt", name := "sum", desc := "(I)V" } : Jvm.MethodName)) ∈ lw_all := lw_g (lw_at lw_m8 19 rfl) rfl
theorem q1856 : (Jvm.Cond.code ({ cls := "ClauseCourt", name := "sum", desc := "(I)V" } : Jvm.MethodName) prog_1_method_90_code (2 : Nat) (Option.none : Option Jvm.ClassFile.FieldType)) ∈ lw_all := lw_g (lw_at lw_m8 20 rfl) rfl
theorem q1857 : (Jvm.Cond.constantLong "ClauseCourt" (538 : Nat) (31 : Int64)) ∈ lw_all := lw_g (lw_at lw_m8 21 rfl) rfl
theorem q1859 : (Jvm.Cond.instanceMethod ({ cls := "ClauseCourt", name := "status", desc := "()I" } : Jvm.MethodName)) ∈ lw_all := lw_g (lw_at lw_m8 23 rfl) rfl
theorem q1860 : (Jvm.Cond.selects "ClauseCourt" ({ cls := "ClauseCourt", name := "status", desc := "()I" } : Jvm.MethodName) ({ cls := "ClauseCourt", name := "status", desc := "()I" } : Jvm.MethodName)) ∈ lw_all := lw_g (lw_at lw_m8 24 rfl) rfl
theorem q1861 : (Jvm.Cond.code ({ cls := "ClauseCourt", name := "status", desc := "()I" } : Jvm.MethodName) prog_1_method_92_code (1 : Nat) (Option.some Jvm.ClassFile.FieldType.int)) ∈ lw_all := lw_g (lw_at lw_m8 25 rfl) rfl
theorem q1863 : (Jvm.Cond.instanceMethod ({ cls := "ClauseCourt", name := "about", desc := "(I)I" } : Jvm.MethodName)) ∈ lw_all := lw_g (lw_at lw_m8 27 rfl) rfl
theorem q1864 : (Jvm.Cond.selects "ClauseCourt" ({ cls := "ClauseCourt", name := "about", desc := "(I)I" } : Jvm.MethodName) ({ cls := "ClauseCourt", name := "about", desc := "(I)I" } : Jvm.MethodName)) ∈ lw_all := lw_g (lw_at lw_m8 28 rfl) rfl
theorem q1865 : (Jvm.Cond.code ({ cls := "ClauseCourt", name := "about", desc := "(I)I" } : Jvm.MethodName) prog_1_method_93_code (2 : Nat) (Option.some Jvm.ClassFile.FieldType.int)) ∈ lw_all := lw_g (lw_at lw_m8 29 rfl) rfl
theorem in_X0 : ∀ w ∈ wsX00, w ∈ lw_all := lw_in wsX00 [485, 487, 489, 491, 493, 495, 497, 499, 501, 503, 505, 507, 509, 511, 513, 515, 517, 519, 521, 523, 525, 527, 529, 531, 533, 535, 537, 539, 541, 543, 545, 547, 549, 551, 553, 555, 557, 559, 561, 563, 565, 567] (by decide +kernel) (by decide +kernel)

/-! ClauseCourt$Engine -/
set_option maxRecDepth 100000
def RX1 : String := "ClauseCourt$Engine"
def TX1 : u_T := fun k => match k with
  | 0 => ("ClauseCourt$Engine", "from", "[I", true)
  | 1 => ("ClauseCourt$Engine", "size", "[I", true)
  | 2 => ("ClauseCourt$Engine", "falses", "[I", true)
  | 3 => ("ClauseCourt$Engine", "trues", "[I", true)
  | 4 => ("ClauseCourt$Engine", "isThere", "[Z", true)
  | 5 => ("ClauseCourt$Engine", "hot", "[J", true)
  | 6 => ("ClauseCourt$Engine", "cell", "[I", true)
  | 7 => ("ClauseCourt$Engine", "rowOf", "[I", true)
  | 8 => ("ClauseCourt$Engine", "next", "[I", true)
  | 9 => ("ClauseCourt$Engine", "head", "[I", true)
  | 10 => ("ClauseCourt$Engine", "cells", "I", false)
  | 11 => ("ClauseCourt$Engine", "all", "I", false)
  | 12 => ("ClauseCourt$Engine", "value", "[I", true)
  | 13 => ("ClauseCourt$Engine", "level", "[I", true)
  | 14 => ("ClauseCourt$Engine", "reason", "[I", true)
  | 15 => ("ClauseCourt$Engine", "latest", "[I", true)
  | 16 => ("ClauseCourt$Engine", "weight", "[J", true)
  | 17 => ("ClauseCourt$Engine", "sourceOf", "[J", true)
  | 18 => ("ClauseCourt$Engine", "trail", "[I", true)
  | 19 => ("ClauseCourt$Engine", "levelAt", "[I", true)
  | 20 => ("ClauseCourt$Engine", "trailed", "I", false)
  | 21 => ("ClauseCourt$Engine", "now", "I", false)
  | 22 => ("ClauseCourt$Engine", "rise", "J", false)
  | 23 => ("ClauseCourt$Engine", "source", "[J", true)
  | 24 => ("ClauseCourt$Engine", "use", "[I", true)
  | 25 => ("ClauseCourt$Engine", "record", "I", false)
  | 26 => ("ClauseCourt$Engine", "recordItems", "I", false)
  | 27 => ("ClauseCourt$Engine", "assumed", "[I", true)
  | 28 => ("ClauseCourt$Engine", "many", "I", false)
  | 29 => ("ClauseCourt$Engine", "said", "I", false)
  | 30 => ("ClauseCourt$Engine", "steps", "I", false)
  | 31 => ("ClauseCourt$Engine", "left", "I", false)
  | 32 => ("ClauseCourt$Engine", "forced", "I", false)
  | 33 => ("ClauseCourt$Engine", "decided", "I", false)
  | 34 => ("ClauseCourt$Engine", "learnings", "I", false)
  | 35 => ("ClauseCourt$Engine", "anew", "I", false)
  | 36 => ("ClauseCourt$Engine", "gone", "I", false)
  | 37 => ("ClauseCourt$Engine", "there", "I", false)
  | 38 => ("ClauseCourt$Engine", "greatest", "I", false)
  | 39 => ("ClauseCourt$Engine", "since", "I", false)
  | 40 => ("ClauseCourt$Engine", "turn", "I", false)
  | 41 => ("ClauseCourt$Engine", "quarrel", "[I", true)
  | 42 => ("ClauseCourt$Engine", "isQuarrel", "Z", false)
  | 43 => ("ClauseCourt$Engine", "core", "[J", true)
  | 44 => ("ClauseCourt$Engine", "coreItem", "[I", true)
  | 45 => ("ClauseCourt$Engine", "coreItems", "I", false)
  | 46 => ("ClauseCourt$Engine", "isIn", "[Z", true)
  | 47 => ("ClauseCourt$Engine", "wasIn", "[Z", true)
  | 48 => ("ClauseCourt$Engine", "isCore", "[Z", true)
  | 49 => ("ClauseCourt$Engine", "made", "[I", true)
  | 50 => ("ClauseCourt$Engine", "madeItems", "I", false)
  | 51 => ("ClauseCourt$Engine", "madeSource", "[J", true)
  | 52 => ("ClauseCourt$Engine", "met", "I", false)
  | 53 => ("ClauseCourt$Engine", "ofUse", "[I", true)
  | 54 => ("ClauseCourt$Engine", "ofUses", "I", false)
  | 55 => ("ClauseCourt$Engine", "order", "[I", true)
  | 56 => ("ClauseCourt$Engine", "found", "[I", true)
  | _ => ("ClauseCourt$Engine", "this$0", "LClauseCourt;", true)
def tyX1 : Nat → FieldType := fun k => match k with
  | 0 => .array .int
  | 1 => .array .int
  | 2 => .array .int
  | 3 => .array .int
  | 4 => .array .boolean
  | 5 => .array .long
  | 6 => .array .int
  | 7 => .array .int
  | 8 => .array .int
  | 9 => .array .int
  | 10 => .int
  | 11 => .int
  | 12 => .array .int
  | 13 => .array .int
  | 14 => .array .int
  | 15 => .array .int
  | 16 => .array .long
  | 17 => .array .long
  | 18 => .array .int
  | 19 => .array .int
  | 20 => .int
  | 21 => .int
  | 22 => .long
  | 23 => .array .long
  | 24 => .array .int
  | 25 => .int
  | 26 => .int
  | 27 => .array .int
  | 28 => .int
  | 29 => .int
  | 30 => .int
  | 31 => .int
  | 32 => .int
  | 33 => .int
  | 34 => .int
  | 35 => .int
  | 36 => .int
  | 37 => .int
  | 38 => .int
  | 39 => .int
  | 40 => .int
  | 41 => .array .int
  | 42 => .boolean
  | 43 => .array .long
  | 44 => .array .int
  | 45 => .int
  | 46 => .array .boolean
  | 47 => .array .boolean
  | 48 => .array .boolean
  | 49 => .array .int
  | 50 => .int
  | 51 => .array .long
  | 52 => .int
  | 53 => .array .int
  | 54 => .int
  | 55 => .array .int
  | 56 => .array .int
  | _ => .object "ClauseCourt"
abbrev wsX10 : List Cond := u_ws RX1 TX1 58
set_option maxRecDepth 100000 in
theorem nmX1 : ∀ a, a < 58 → ∀ b, b < 58 → a ≠ b → (TX1 a).2.1 ≠ (TX1 b).2.1 := by decide +kernel
set_option maxRecDepth 100000 in
theorem tyX1_ok : ∀ k, k < 58 → parseFieldDescriptor (TX1 k).2.2.1 = some (tyX1 k) := by decide +kernel
abbrev cX1_init : ByteArray := prog_5_method_1_code
def yX1_init : MethodName := ⟨RX1, "<init>", "(LClauseCourt;)V"⟩
def dkwX1_init_12 : List UInt8 := [188, 10, 181, 0, 109, 42, 17, 3, 32, 188, 10, 181, 0, 112, 42, 17, 1, 45, 188, 10, 181, 0, 115, 177]
abbrev dktX1_init_12 : List UInt8 := dkwX1_init_12 ++ []
def dkwX1_init_11 : List UInt8 := [181, 0, 100, 42, 17, 1, 44, 188, 10, 181, 0, 103, 42, 16, 8, 188, 11, 181, 0, 106, 42, 17, 1, 45]
abbrev dktX1_init_11 : List UInt8 := dkwX1_init_11 ++ dktX1_init_12
def dkwX1_init_10 : List UInt8 := [17, 1, 45, 188, 4, 181, 0, 94, 42, 17, 1, 45, 188, 4, 181, 0, 97, 42, 17, 1, 45, 188, 4]
abbrev dktX1_init_10 : List UInt8 := dkwX1_init_10 ++ dktX1_init_11
def dkwX1_init_9 : List UInt8 := [8, 188, 10, 181, 0, 85, 42, 16, 8, 188, 11, 181, 0, 88, 42, 16, 20, 188, 10, 181, 0, 91, 42]
abbrev dktX1_init_9 : List UInt8 := dkwX1_init_9 ++ dktX1_init_10
def dkwX1_init_8 : List UInt8 := [17, 3, 32, 188, 10, 181, 0, 75, 42, 16, 20, 188, 10, 181, 0, 78, 42, 17, 252, 19, 181, 0, 81, 42]
abbrev dktX1_init_8 : List UInt8 := dkwX1_init_8 ++ dktX1_init_9
def dkwX1_init_7 : List UInt8 := [181, 0, 66, 42, 17, 1, 66, 188, 10, 181, 0, 69, 42, 17, 25, 0, 188, 11, 181, 0, 72, 42]
abbrev dktX1_init_7 : List UInt8 := dkwX1_init_7 ++ dktX1_init_8
def dkwX1_init_6 : List UInt8 := [17, 1, 45, 188, 11, 181, 0, 60, 42, 17, 9, 104, 188, 11, 181, 0, 63, 42, 17, 1, 44, 188, 10]
abbrev dktX1_init_6 : List UInt8 := dkwX1_init_6 ++ dktX1_init_7
def dkwX1_init_5 : List UInt8 := [181, 0, 51, 42, 17, 1, 45, 188, 10, 181, 0, 54, 42, 17, 1, 45, 188, 10, 181, 0, 57, 42]
abbrev dktX1_init_5 : List UInt8 := dkwX1_init_5 ++ dktX1_init_6
def dkwX1_init_4 : List UInt8 := [17, 2, 90, 188, 10, 181, 0, 45, 42, 17, 1, 45, 188, 10, 181, 0, 48, 42, 17, 1, 45, 188, 10]
abbrev dktX1_init_4 : List UInt8 := dkwX1_init_4 ++ dktX1_init_5
def dkwX1_init_3 : List UInt8 := [181, 0, 36, 42, 17, 47, 48, 188, 10, 181, 0, 39, 42, 17, 47, 48, 188, 10, 181, 0, 42, 42]
abbrev dktX1_init_3 : List UInt8 := dkwX1_init_3 ++ dktX1_init_4
def dkwX1_init_2 : List UInt8 := [17, 5, 84, 188, 4, 181, 0, 28, 42, 16, 22, 188, 11, 181, 0, 32, 42, 17, 47, 48, 188, 10]
abbrev dktX1_init_2 : List UInt8 := dkwX1_init_2 ++ dktX1_init_3
def dkwX1_init_1 : List UInt8 := [181, 0, 19, 42, 17, 5, 84, 188, 10, 181, 0, 22, 42, 17, 5, 84, 188, 10, 181, 0, 25, 42]
abbrev dktX1_init_1 : List UInt8 := dkwX1_init_1 ++ dktX1_init_2
def dkwX1_init_0 : List UInt8 := [42, 43, 181, 0, 3, 42, 183, 0, 9, 42, 17, 5, 84, 188, 10, 181, 0, 15, 42, 17, 5, 84, 188, 10]
abbrev dktX1_init_0 : List UInt8 := dkwX1_init_0 ++ dktX1_init_1
theorem dksX1_init_0 : cX1_init.data.toList.drop 0 = dktX1_init_0 := by decide +kernel
theorem dksX1_init_1 : cX1_init.data.toList.drop 24 = dktX1_init_1 := dk_seg dksX1_init_0 24 rfl rfl
theorem dksX1_init_2 : cX1_init.data.toList.drop 46 = dktX1_init_2 := dk_seg dksX1_init_1 22 rfl rfl
theorem dksX1_init_3 : cX1_init.data.toList.drop 68 = dktX1_init_3 := dk_seg dksX1_init_2 22 rfl rfl
theorem dksX1_init_4 : cX1_init.data.toList.drop 90 = dktX1_init_4 := dk_seg dksX1_init_3 22 rfl rfl
theorem dksX1_init_5 : cX1_init.data.toList.drop 113 = dktX1_init_5 := dk_seg dksX1_init_4 23 rfl rfl
theorem dksX1_init_6 : cX1_init.data.toList.drop 135 = dktX1_init_6 := dk_seg dksX1_init_5 22 rfl rfl
theorem dksX1_init_7 : cX1_init.data.toList.drop 158 = dktX1_init_7 := dk_seg dksX1_init_6 23 rfl rfl
theorem dksX1_init_8 : cX1_init.data.toList.drop 180 = dktX1_init_8 := dk_seg dksX1_init_7 22 rfl rfl
theorem dksX1_init_9 : cX1_init.data.toList.drop 204 = dktX1_init_9 := dk_seg dksX1_init_8 24 rfl rfl
theorem dksX1_init_10 : cX1_init.data.toList.drop 227 = dktX1_init_10 := dk_seg dksX1_init_9 23 rfl rfl
theorem dksX1_init_11 : cX1_init.data.toList.drop 250 = dktX1_init_11 := dk_seg dksX1_init_10 23 rfl rfl
theorem dksX1_init_12 : cX1_init.data.toList.drop 274 = dktX1_init_12 := dk_seg dksX1_init_11 24 rfl rfl
theorem dX1_init_0 : decode cX1_init 0 = .ok (.aload_n 0, 1) := dk_42 (dk_at dksX1_init_0 0 rfl rfl)
theorem dX1_init_1 : decode cX1_init 1 = .ok (.aload_n 1, 1) := dk_43 (dk_at dksX1_init_0 1 rfl rfl)
theorem dX1_init_2 : decode cX1_init 2 = .ok (.putfield 3, 3) := dk_181 0 3 (dk_at dksX1_init_0 2 rfl rfl)
theorem dX1_init_5 : decode cX1_init 5 = .ok (.aload_n 0, 1) := dk_42 (dk_at dksX1_init_0 5 rfl rfl)
theorem dX1_init_6 : decode cX1_init 6 = .ok (.invokespecial 9, 3) := dk_183 0 9 (dk_at dksX1_init_0 6 rfl rfl)
theorem dX1_init_9 : decode cX1_init 9 = .ok (.aload_n 0, 1) := dk_42 (dk_at dksX1_init_0 9 rfl rfl)
theorem dX1_init_10 : decode cX1_init 10 = .ok (.sipush 1364, 3) := dk_17 5 84 (dk_at dksX1_init_0 10 rfl rfl)
theorem dX1_init_13 : decode cX1_init 13 = .ok (.newarray .int, 2) := dk_188_10 (dk_at dksX1_init_0 13 rfl rfl)
theorem dX1_init_15 : decode cX1_init 15 = .ok (.putfield 15, 3) := dk_181 0 15 (dk_at dksX1_init_0 15 rfl rfl)
theorem dX1_init_18 : decode cX1_init 18 = .ok (.aload_n 0, 1) := dk_42 (dk_at dksX1_init_0 18 rfl rfl)
theorem dX1_init_19 : decode cX1_init 19 = .ok (.sipush 1364, 3) := dk_17 5 84 (dk_at dksX1_init_0 19 rfl rfl)
theorem dX1_init_22 : decode cX1_init 22 = .ok (.newarray .int, 2) := dk_188_10 (dk_at dksX1_init_0 22 rfl rfl)
theorem dX1_init_24 : decode cX1_init 24 = .ok (.putfield 19, 3) := dk_181 0 19 (dk_at dksX1_init_1 0 rfl rfl)
theorem dX1_init_27 : decode cX1_init 27 = .ok (.aload_n 0, 1) := dk_42 (dk_at dksX1_init_1 3 rfl rfl)
theorem dX1_init_28 : decode cX1_init 28 = .ok (.sipush 1364, 3) := dk_17 5 84 (dk_at dksX1_init_1 4 rfl rfl)
theorem dX1_init_31 : decode cX1_init 31 = .ok (.newarray .int, 2) := dk_188_10 (dk_at dksX1_init_1 7 rfl rfl)
theorem dX1_init_33 : decode cX1_init 33 = .ok (.putfield 22, 3) := dk_181 0 22 (dk_at dksX1_init_1 9 rfl rfl)
theorem dX1_init_36 : decode cX1_init 36 = .ok (.aload_n 0, 1) := dk_42 (dk_at dksX1_init_1 12 rfl rfl)
theorem dX1_init_37 : decode cX1_init 37 = .ok (.sipush 1364, 3) := dk_17 5 84 (dk_at dksX1_init_1 13 rfl rfl)
theorem dX1_init_40 : decode cX1_init 40 = .ok (.newarray .int, 2) := dk_188_10 (dk_at dksX1_init_1 16 rfl rfl)
theorem dX1_init_42 : decode cX1_init 42 = .ok (.putfield 25, 3) := dk_181 0 25 (dk_at dksX1_init_1 18 rfl rfl)
theorem dX1_init_45 : decode cX1_init 45 = .ok (.aload_n 0, 1) := dk_42 (dk_at dksX1_init_1 21 rfl rfl)
theorem dX1_init_46 : decode cX1_init 46 = .ok (.sipush 1364, 3) := dk_17 5 84 (dk_at dksX1_init_2 0 rfl rfl)
theorem dX1_init_49 : decode cX1_init 49 = .ok (.newarray .boolean, 2) := dk_188_4 (dk_at dksX1_init_2 3 rfl rfl)
theorem dX1_init_51 : decode cX1_init 51 = .ok (.putfield 28, 3) := dk_181 0 28 (dk_at dksX1_init_2 5 rfl rfl)
theorem dX1_init_54 : decode cX1_init 54 = .ok (.aload_n 0, 1) := dk_42 (dk_at dksX1_init_2 8 rfl rfl)
theorem dX1_init_55 : decode cX1_init 55 = .ok (.bipush 22, 2) := dk_16 22 (dk_at dksX1_init_2 9 rfl rfl)
theorem dX1_init_57 : decode cX1_init 57 = .ok (.newarray .long, 2) := dk_188_11 (dk_at dksX1_init_2 11 rfl rfl)
theorem dX1_init_59 : decode cX1_init 59 = .ok (.putfield 32, 3) := dk_181 0 32 (dk_at dksX1_init_2 13 rfl rfl)
theorem dX1_init_62 : decode cX1_init 62 = .ok (.aload_n 0, 1) := dk_42 (dk_at dksX1_init_2 16 rfl rfl)
theorem dX1_init_63 : decode cX1_init 63 = .ok (.sipush 12080, 3) := dk_17 47 48 (dk_at dksX1_init_2 17 rfl rfl)
theorem dX1_init_66 : decode cX1_init 66 = .ok (.newarray .int, 2) := dk_188_10 (dk_at dksX1_init_2 20 rfl rfl)
theorem dX1_init_68 : decode cX1_init 68 = .ok (.putfield 36, 3) := dk_181 0 36 (dk_at dksX1_init_3 0 rfl rfl)
theorem dX1_init_71 : decode cX1_init 71 = .ok (.aload_n 0, 1) := dk_42 (dk_at dksX1_init_3 3 rfl rfl)
theorem dX1_init_72 : decode cX1_init 72 = .ok (.sipush 12080, 3) := dk_17 47 48 (dk_at dksX1_init_3 4 rfl rfl)
theorem dX1_init_75 : decode cX1_init 75 = .ok (.newarray .int, 2) := dk_188_10 (dk_at dksX1_init_3 7 rfl rfl)
theorem dX1_init_77 : decode cX1_init 77 = .ok (.putfield 39, 3) := dk_181 0 39 (dk_at dksX1_init_3 9 rfl rfl)
theorem dX1_init_80 : decode cX1_init 80 = .ok (.aload_n 0, 1) := dk_42 (dk_at dksX1_init_3 12 rfl rfl)
theorem dX1_init_81 : decode cX1_init 81 = .ok (.sipush 12080, 3) := dk_17 47 48 (dk_at dksX1_init_3 13 rfl rfl)
theorem dX1_init_84 : decode cX1_init 84 = .ok (.newarray .int, 2) := dk_188_10 (dk_at dksX1_init_3 16 rfl rfl)
theorem dX1_init_86 : decode cX1_init 86 = .ok (.putfield 42, 3) := dk_181 0 42 (dk_at dksX1_init_3 18 rfl rfl)
theorem dX1_init_89 : decode cX1_init 89 = .ok (.aload_n 0, 1) := dk_42 (dk_at dksX1_init_3 21 rfl rfl)
theorem dX1_init_90 : decode cX1_init 90 = .ok (.sipush 602, 3) := dk_17 2 90 (dk_at dksX1_init_4 0 rfl rfl)
theorem dX1_init_93 : decode cX1_init 93 = .ok (.newarray .int, 2) := dk_188_10 (dk_at dksX1_init_4 3 rfl rfl)
theorem dX1_init_95 : decode cX1_init 95 = .ok (.putfield 45, 3) := dk_181 0 45 (dk_at dksX1_init_4 5 rfl rfl)
theorem dX1_init_98 : decode cX1_init 98 = .ok (.aload_n 0, 1) := dk_42 (dk_at dksX1_init_4 8 rfl rfl)
theorem dX1_init_99 : decode cX1_init 99 = .ok (.sipush 301, 3) := dk_17 1 45 (dk_at dksX1_init_4 9 rfl rfl)
theorem dX1_init_102 : decode cX1_init 102 = .ok (.newarray .int, 2) := dk_188_10 (dk_at dksX1_init_4 12 rfl rfl)
theorem dX1_init_104 : decode cX1_init 104 = .ok (.putfield 48, 3) := dk_181 0 48 (dk_at dksX1_init_4 14 rfl rfl)
theorem dX1_init_107 : decode cX1_init 107 = .ok (.aload_n 0, 1) := dk_42 (dk_at dksX1_init_4 17 rfl rfl)
theorem dX1_init_108 : decode cX1_init 108 = .ok (.sipush 301, 3) := dk_17 1 45 (dk_at dksX1_init_4 18 rfl rfl)
theorem dX1_init_111 : decode cX1_init 111 = .ok (.newarray .int, 2) := dk_188_10 (dk_at dksX1_init_4 21 rfl rfl)
theorem dX1_init_113 : decode cX1_init 113 = .ok (.putfield 51, 3) := dk_181 0 51 (dk_at dksX1_init_5 0 rfl rfl)
theorem dX1_init_116 : decode cX1_init 116 = .ok (.aload_n 0, 1) := dk_42 (dk_at dksX1_init_5 3 rfl rfl)
theorem dX1_init_117 : decode cX1_init 117 = .ok (.sipush 301, 3) := dk_17 1 45 (dk_at dksX1_init_5 4 rfl rfl)
theorem dX1_init_120 : decode cX1_init 120 = .ok (.newarray .int, 2) := dk_188_10 (dk_at dksX1_init_5 7 rfl rfl)
theorem dX1_init_122 : decode cX1_init 122 = .ok (.putfield 54, 3) := dk_181 0 54 (dk_at dksX1_init_5 9 rfl rfl)
theorem dX1_init_125 : decode cX1_init 125 = .ok (.aload_n 0, 1) := dk_42 (dk_at dksX1_init_5 12 rfl rfl)
theorem dX1_init_126 : decode cX1_init 126 = .ok (.sipush 301, 3) := dk_17 1 45 (dk_at dksX1_init_5 13 rfl rfl)
theorem dX1_init_129 : decode cX1_init 129 = .ok (.newarray .int, 2) := dk_188_10 (dk_at dksX1_init_5 16 rfl rfl)
theorem dX1_init_131 : decode cX1_init 131 = .ok (.putfield 57, 3) := dk_181 0 57 (dk_at dksX1_init_5 18 rfl rfl)
theorem dX1_init_134 : decode cX1_init 134 = .ok (.aload_n 0, 1) := dk_42 (dk_at dksX1_init_5 21 rfl rfl)
theorem dX1_init_135 : decode cX1_init 135 = .ok (.sipush 301, 3) := dk_17 1 45 (dk_at dksX1_init_6 0 rfl rfl)
theorem dX1_init_138 : decode cX1_init 138 = .ok (.newarray .long, 2) := dk_188_11 (dk_at dksX1_init_6 3 rfl rfl)
theorem dX1_init_140 : decode cX1_init 140 = .ok (.putfield 60, 3) := dk_181 0 60 (dk_at dksX1_init_6 5 rfl rfl)
theorem dX1_init_143 : decode cX1_init 143 = .ok (.aload_n 0, 1) := dk_42 (dk_at dksX1_init_6 8 rfl rfl)
theorem dX1_init_144 : decode cX1_init 144 = .ok (.sipush 2408, 3) := dk_17 9 104 (dk_at dksX1_init_6 9 rfl rfl)
theorem dX1_init_147 : decode cX1_init 147 = .ok (.newarray .long, 2) := dk_188_11 (dk_at dksX1_init_6 12 rfl rfl)
theorem dX1_init_149 : decode cX1_init 149 = .ok (.putfield 63, 3) := dk_181 0 63 (dk_at dksX1_init_6 14 rfl rfl)
theorem dX1_init_152 : decode cX1_init 152 = .ok (.aload_n 0, 1) := dk_42 (dk_at dksX1_init_6 17 rfl rfl)
theorem dX1_init_153 : decode cX1_init 153 = .ok (.sipush 300, 3) := dk_17 1 44 (dk_at dksX1_init_6 18 rfl rfl)
theorem dX1_init_156 : decode cX1_init 156 = .ok (.newarray .int, 2) := dk_188_10 (dk_at dksX1_init_6 21 rfl rfl)
theorem dX1_init_158 : decode cX1_init 158 = .ok (.putfield 66, 3) := dk_181 0 66 (dk_at dksX1_init_7 0 rfl rfl)
theorem dX1_init_161 : decode cX1_init 161 = .ok (.aload_n 0, 1) := dk_42 (dk_at dksX1_init_7 3 rfl rfl)
theorem dX1_init_162 : decode cX1_init 162 = .ok (.sipush 322, 3) := dk_17 1 66 (dk_at dksX1_init_7 4 rfl rfl)
theorem dX1_init_165 : decode cX1_init 165 = .ok (.newarray .int, 2) := dk_188_10 (dk_at dksX1_init_7 7 rfl rfl)
theorem dX1_init_167 : decode cX1_init 167 = .ok (.putfield 69, 3) := dk_181 0 69 (dk_at dksX1_init_7 9 rfl rfl)
theorem dX1_init_170 : decode cX1_init 170 = .ok (.aload_n 0, 1) := dk_42 (dk_at dksX1_init_7 12 rfl rfl)
theorem dX1_init_171 : decode cX1_init 171 = .ok (.sipush 6400, 3) := dk_17 25 0 (dk_at dksX1_init_7 13 rfl rfl)
theorem dX1_init_174 : decode cX1_init 174 = .ok (.newarray .long, 2) := dk_188_11 (dk_at dksX1_init_7 16 rfl rfl)
theorem dX1_init_176 : decode cX1_init 176 = .ok (.putfield 72, 3) := dk_181 0 72 (dk_at dksX1_init_7 18 rfl rfl)
theorem dX1_init_179 : decode cX1_init 179 = .ok (.aload_n 0, 1) := dk_42 (dk_at dksX1_init_7 21 rfl rfl)
theorem dX1_init_180 : decode cX1_init 180 = .ok (.sipush 800, 3) := dk_17 3 32 (dk_at dksX1_init_8 0 rfl rfl)
theorem dX1_init_183 : decode cX1_init 183 = .ok (.newarray .int, 2) := dk_188_10 (dk_at dksX1_init_8 3 rfl rfl)
theorem dX1_init_185 : decode cX1_init 185 = .ok (.putfield 75, 3) := dk_181 0 75 (dk_at dksX1_init_8 5 rfl rfl)
theorem dX1_init_188 : decode cX1_init 188 = .ok (.aload_n 0, 1) := dk_42 (dk_at dksX1_init_8 8 rfl rfl)
theorem dX1_init_189 : decode cX1_init 189 = .ok (.bipush 20, 2) := dk_16 20 (dk_at dksX1_init_8 9 rfl rfl)
theorem dX1_init_191 : decode cX1_init 191 = .ok (.newarray .int, 2) := dk_188_10 (dk_at dksX1_init_8 11 rfl rfl)
theorem dX1_init_193 : decode cX1_init 193 = .ok (.putfield 78, 3) := dk_181 0 78 (dk_at dksX1_init_8 13 rfl rfl)
theorem dX1_init_196 : decode cX1_init 196 = .ok (.aload_n 0, 1) := dk_42 (dk_at dksX1_init_8 16 rfl rfl)
theorem dX1_init_197 : decode cX1_init 197 = .ok (.sipush (-1005), 3) := dk_17 252 19 (dk_at dksX1_init_8 17 rfl rfl)
theorem dX1_init_200 : decode cX1_init 200 = .ok (.putfield 81, 3) := dk_181 0 81 (dk_at dksX1_init_8 20 rfl rfl)
theorem dX1_init_203 : decode cX1_init 203 = .ok (.aload_n 0, 1) := dk_42 (dk_at dksX1_init_8 23 rfl rfl)
theorem dX1_init_204 : decode cX1_init 204 = .ok (.iconst 5, 1) := dk_8 (dk_at dksX1_init_9 0 rfl rfl)
theorem dX1_init_205 : decode cX1_init 205 = .ok (.newarray .int, 2) := dk_188_10 (dk_at dksX1_init_9 1 rfl rfl)
theorem dX1_init_207 : decode cX1_init 207 = .ok (.putfield 85, 3) := dk_181 0 85 (dk_at dksX1_init_9 3 rfl rfl)
theorem dX1_init_210 : decode cX1_init 210 = .ok (.aload_n 0, 1) := dk_42 (dk_at dksX1_init_9 6 rfl rfl)
theorem dX1_init_211 : decode cX1_init 211 = .ok (.bipush 8, 2) := dk_16 8 (dk_at dksX1_init_9 7 rfl rfl)
theorem dX1_init_213 : decode cX1_init 213 = .ok (.newarray .long, 2) := dk_188_11 (dk_at dksX1_init_9 9 rfl rfl)
theorem dX1_init_215 : decode cX1_init 215 = .ok (.putfield 88, 3) := dk_181 0 88 (dk_at dksX1_init_9 11 rfl rfl)
theorem dX1_init_218 : decode cX1_init 218 = .ok (.aload_n 0, 1) := dk_42 (dk_at dksX1_init_9 14 rfl rfl)
theorem dX1_init_219 : decode cX1_init 219 = .ok (.bipush 20, 2) := dk_16 20 (dk_at dksX1_init_9 15 rfl rfl)
theorem dX1_init_221 : decode cX1_init 221 = .ok (.newarray .int, 2) := dk_188_10 (dk_at dksX1_init_9 17 rfl rfl)
theorem dX1_init_223 : decode cX1_init 223 = .ok (.putfield 91, 3) := dk_181 0 91 (dk_at dksX1_init_9 19 rfl rfl)
theorem dX1_init_226 : decode cX1_init 226 = .ok (.aload_n 0, 1) := dk_42 (dk_at dksX1_init_9 22 rfl rfl)
theorem dX1_init_227 : decode cX1_init 227 = .ok (.sipush 301, 3) := dk_17 1 45 (dk_at dksX1_init_10 0 rfl rfl)
theorem dX1_init_230 : decode cX1_init 230 = .ok (.newarray .boolean, 2) := dk_188_4 (dk_at dksX1_init_10 3 rfl rfl)
theorem dX1_init_232 : decode cX1_init 232 = .ok (.putfield 94, 3) := dk_181 0 94 (dk_at dksX1_init_10 5 rfl rfl)
theorem dX1_init_235 : decode cX1_init 235 = .ok (.aload_n 0, 1) := dk_42 (dk_at dksX1_init_10 8 rfl rfl)
theorem dX1_init_236 : decode cX1_init 236 = .ok (.sipush 301, 3) := dk_17 1 45 (dk_at dksX1_init_10 9 rfl rfl)
theorem dX1_init_239 : decode cX1_init 239 = .ok (.newarray .boolean, 2) := dk_188_4 (dk_at dksX1_init_10 12 rfl rfl)
theorem dX1_init_241 : decode cX1_init 241 = .ok (.putfield 97, 3) := dk_181 0 97 (dk_at dksX1_init_10 14 rfl rfl)
theorem dX1_init_244 : decode cX1_init 244 = .ok (.aload_n 0, 1) := dk_42 (dk_at dksX1_init_10 17 rfl rfl)
theorem dX1_init_245 : decode cX1_init 245 = .ok (.sipush 301, 3) := dk_17 1 45 (dk_at dksX1_init_10 18 rfl rfl)
theorem dX1_init_248 : decode cX1_init 248 = .ok (.newarray .boolean, 2) := dk_188_4 (dk_at dksX1_init_10 21 rfl rfl)
theorem dX1_init_250 : decode cX1_init 250 = .ok (.putfield 100, 3) := dk_181 0 100 (dk_at dksX1_init_11 0 rfl rfl)
theorem dX1_init_253 : decode cX1_init 253 = .ok (.aload_n 0, 1) := dk_42 (dk_at dksX1_init_11 3 rfl rfl)
theorem dX1_init_254 : decode cX1_init 254 = .ok (.sipush 300, 3) := dk_17 1 44 (dk_at dksX1_init_11 4 rfl rfl)
theorem dX1_init_257 : decode cX1_init 257 = .ok (.newarray .int, 2) := dk_188_10 (dk_at dksX1_init_11 7 rfl rfl)
theorem dX1_init_259 : decode cX1_init 259 = .ok (.putfield 103, 3) := dk_181 0 103 (dk_at dksX1_init_11 9 rfl rfl)
theorem dX1_init_262 : decode cX1_init 262 = .ok (.aload_n 0, 1) := dk_42 (dk_at dksX1_init_11 12 rfl rfl)
theorem dX1_init_263 : decode cX1_init 263 = .ok (.bipush 8, 2) := dk_16 8 (dk_at dksX1_init_11 13 rfl rfl)
theorem dX1_init_265 : decode cX1_init 265 = .ok (.newarray .long, 2) := dk_188_11 (dk_at dksX1_init_11 15 rfl rfl)
theorem dX1_init_267 : decode cX1_init 267 = .ok (.putfield 106, 3) := dk_181 0 106 (dk_at dksX1_init_11 17 rfl rfl)
theorem dX1_init_270 : decode cX1_init 270 = .ok (.aload_n 0, 1) := dk_42 (dk_at dksX1_init_11 20 rfl rfl)
theorem dX1_init_271 : decode cX1_init 271 = .ok (.sipush 301, 3) := dk_17 1 45 (dk_at dksX1_init_11 21 rfl rfl)
theorem dX1_init_274 : decode cX1_init 274 = .ok (.newarray .int, 2) := dk_188_10 (dk_at dksX1_init_12 0 rfl rfl)
theorem dX1_init_276 : decode cX1_init 276 = .ok (.putfield 109, 3) := dk_181 0 109 (dk_at dksX1_init_12 2 rfl rfl)
theorem dX1_init_279 : decode cX1_init 279 = .ok (.aload_n 0, 1) := dk_42 (dk_at dksX1_init_12 5 rfl rfl)
theorem dX1_init_280 : decode cX1_init 280 = .ok (.sipush 800, 3) := dk_17 3 32 (dk_at dksX1_init_12 6 rfl rfl)
theorem dX1_init_283 : decode cX1_init 283 = .ok (.newarray .int, 2) := dk_188_10 (dk_at dksX1_init_12 9 rfl rfl)
theorem dX1_init_285 : decode cX1_init 285 = .ok (.putfield 112, 3) := dk_181 0 112 (dk_at dksX1_init_12 11 rfl rfl)
theorem dX1_init_288 : decode cX1_init 288 = .ok (.aload_n 0, 1) := dk_42 (dk_at dksX1_init_12 14 rfl rfl)
theorem dX1_init_289 : decode cX1_init 289 = .ok (.sipush 301, 3) := dk_17 1 45 (dk_at dksX1_init_12 15 rfl rfl)
theorem dX1_init_292 : decode cX1_init 292 = .ok (.newarray .int, 2) := dk_188_10 (dk_at dksX1_init_12 18 rfl rfl)
theorem dX1_init_294 : decode cX1_init 294 = .ok (.putfield 115, 3) := dk_181 0 115 (dk_at dksX1_init_12 20 rfl rfl)
theorem dX1_init_297 : decode cX1_init 297 = .ok (.return_, 1) := dk_177 (dk_at dksX1_init_12 23 rfl rfl)
abbrev cX1_clear : ByteArray := prog_5_method_3_code
def yX1_clear : MethodName := ⟨RX1, "clear", "()V"⟩
def dkwX1_clear_10 : List UInt8 := [42, 3, 181, 0, 191, 177]
abbrev dktX1_clear_10 : List UInt8 := dkwX1_clear_10 ++ []
def dkwX1_clear_9 : List UInt8 := [3, 181, 0, 175, 42, 3, 181, 0, 178, 42, 3, 181, 0, 181, 42, 4, 181, 0, 184, 42, 3, 181, 0, 187]
abbrev dktX1_clear_9 : List UInt8 := dkwX1_clear_9 ++ dktX1_clear_10
def dkwX1_clear_8 : List UInt8 := [181, 0, 160, 42, 3, 181, 0, 163, 42, 3, 181, 0, 166, 42, 3, 181, 0, 169, 42, 3, 181, 0, 172, 42]
abbrev dktX1_clear_8 : List UInt8 := dkwX1_clear_8 ++ dktX1_clear_9
def dkwX1_clear_7 : List UInt8 := [181, 0, 151, 42, 3, 181, 0, 154, 42, 17, 252, 19, 181, 0, 81, 42, 3, 181, 0, 157, 42, 3]
abbrev dktX1_clear_7 : List UInt8 := dkwX1_clear_7 ++ dktX1_clear_8
def dkwX1_clear_6 : List UInt8 := [181, 0, 136, 42, 3, 181, 0, 139, 42, 20, 0, 142, 181, 0, 144, 42, 3, 181, 0, 148, 42, 3]
abbrev dktX1_clear_6 : List UInt8 := dkwX1_clear_6 ++ dktX1_clear_7
def dkwX1_clear_5 : List UInt8 := [180, 0, 3, 180, 0, 127, 27, 4, 100, 50, 180, 0, 131, 133, 80, 132, 1, 1, 167, 255, 210, 42, 3]
abbrev dktX1_clear_5 : List UInt8 := dkwX1_clear_5 ++ dktX1_clear_6
def dkwX1_clear_4 : List UInt8 := [163, 0, 44, 42, 180, 0, 48, 27, 3, 79, 42, 180, 0, 57, 27, 3, 79, 42, 180, 0, 60, 27, 42]
abbrev dktX1_clear_4 : List UInt8 := dkwX1_clear_4 ++ dktX1_clear_5
def dkwX1_clear_3 : List UInt8 := [42, 180, 0, 45, 27, 17, 252, 19, 79, 132, 1, 1, 167, 255, 235, 4, 60, 27, 42, 180, 0, 121]
abbrev dktX1_clear_3 : List UInt8 := dkwX1_clear_3 ++ dktX1_clear_4
def dkwX1_clear_2 : List UInt8 := [42, 180, 0, 32, 27, 9, 80, 132, 1, 1, 167, 255, 240, 3, 60, 27, 42, 180, 0, 45, 190, 162, 0, 18]
abbrev dktX1_clear_2 : List UInt8 := dkwX1_clear_2 ++ dktX1_clear_3
def dkwX1_clear_1 : List UInt8 := [162, 0, 16, 42, 180, 0, 28, 27, 3, 84, 132, 1, 1, 167, 255, 239, 3, 60, 27, 16, 22, 162, 0, 16]
abbrev dktX1_clear_1 : List UInt8 := dkwX1_clear_1 ++ dktX1_clear_2
def dkwX1_clear_0 : List UInt8 := [42, 42, 180, 0, 3, 180, 0, 118, 181, 0, 121, 42, 3, 181, 0, 124, 3, 60, 27, 17, 5, 84]
abbrev dktX1_clear_0 : List UInt8 := dkwX1_clear_0 ++ dktX1_clear_1
theorem dksX1_clear_0 : cX1_clear.data.toList.drop 0 = dktX1_clear_0 := by decide +kernel
theorem dksX1_clear_1 : cX1_clear.data.toList.drop 22 = dktX1_clear_1 := dk_seg dksX1_clear_0 22 rfl rfl
theorem dksX1_clear_2 : cX1_clear.data.toList.drop 46 = dktX1_clear_2 := dk_seg dksX1_clear_1 24 rfl rfl
theorem dksX1_clear_3 : cX1_clear.data.toList.drop 70 = dktX1_clear_3 := dk_seg dksX1_clear_2 24 rfl rfl
theorem dksX1_clear_4 : cX1_clear.data.toList.drop 92 = dktX1_clear_4 := dk_seg dksX1_clear_3 22 rfl rfl
theorem dksX1_clear_5 : cX1_clear.data.toList.drop 115 = dktX1_clear_5 := dk_seg dksX1_clear_4 23 rfl rfl
theorem dksX1_clear_6 : cX1_clear.data.toList.drop 138 = dktX1_clear_6 := dk_seg dksX1_clear_5 23 rfl rfl
theorem dksX1_clear_7 : cX1_clear.data.toList.drop 160 = dktX1_clear_7 := dk_seg dksX1_clear_6 22 rfl rfl
theorem dksX1_clear_8 : cX1_clear.data.toList.drop 182 = dktX1_clear_8 := dk_seg dksX1_clear_7 22 rfl rfl
theorem dksX1_clear_9 : cX1_clear.data.toList.drop 206 = dktX1_clear_9 := dk_seg dksX1_clear_8 24 rfl rfl
theorem dksX1_clear_10 : cX1_clear.data.toList.drop 230 = dktX1_clear_10 := dk_seg dksX1_clear_9 24 rfl rfl
theorem dX1_clear_0 : decode cX1_clear 0 = .ok (.aload_n 0, 1) := dk_42 (dk_at dksX1_clear_0 0 rfl rfl)
theorem dX1_clear_1 : decode cX1_clear 1 = .ok (.aload_n 0, 1) := dk_42 (dk_at dksX1_clear_0 1 rfl rfl)
theorem dX1_clear_2 : decode cX1_clear 2 = .ok (.getfield 3, 3) := dk_180 0 3 (dk_at dksX1_clear_0 2 rfl rfl)
theorem dX1_clear_5 : decode cX1_clear 5 = .ok (.getfield 118, 3) := dk_180 0 118 (dk_at dksX1_clear_0 5 rfl rfl)
theorem dX1_clear_8 : decode cX1_clear 8 = .ok (.putfield 121, 3) := dk_181 0 121 (dk_at dksX1_clear_0 8 rfl rfl)
theorem dX1_clear_11 : decode cX1_clear 11 = .ok (.aload_n 0, 1) := dk_42 (dk_at dksX1_clear_0 11 rfl rfl)
theorem dX1_clear_12 : decode cX1_clear 12 = .ok (.iconst 0, 1) := dk_3 (dk_at dksX1_clear_0 12 rfl rfl)
theorem dX1_clear_13 : decode cX1_clear 13 = .ok (.putfield 124, 3) := dk_181 0 124 (dk_at dksX1_clear_0 13 rfl rfl)
theorem dX1_clear_16 : decode cX1_clear 16 = .ok (.iconst 0, 1) := dk_3 (dk_at dksX1_clear_0 16 rfl rfl)
theorem dX1_clear_17 : decode cX1_clear 17 = .ok (.istore_n 1, 1) := dk_60 (dk_at dksX1_clear_0 17 rfl rfl)
theorem dX1_clear_18 : decode cX1_clear 18 = .ok (.iload_n 1, 1) := dk_27 (dk_at dksX1_clear_0 18 rfl rfl)
theorem dX1_clear_19 : decode cX1_clear 19 = .ok (.sipush 1364, 3) := dk_17 5 84 (dk_at dksX1_clear_0 19 rfl rfl)
theorem dX1_clear_22 : decode cX1_clear 22 = .ok (.if_icmp .ge 16, 3) := dk_162 0 16 (dk_at dksX1_clear_1 0 rfl rfl)
theorem dX1_clear_25 : decode cX1_clear 25 = .ok (.aload_n 0, 1) := dk_42 (dk_at dksX1_clear_1 3 rfl rfl)
theorem dX1_clear_26 : decode cX1_clear 26 = .ok (.getfield 28, 3) := dk_180 0 28 (dk_at dksX1_clear_1 4 rfl rfl)
theorem dX1_clear_29 : decode cX1_clear 29 = .ok (.iload_n 1, 1) := dk_27 (dk_at dksX1_clear_1 7 rfl rfl)
theorem dX1_clear_30 : decode cX1_clear 30 = .ok (.iconst 0, 1) := dk_3 (dk_at dksX1_clear_1 8 rfl rfl)
theorem dX1_clear_31 : decode cX1_clear 31 = .ok (.bastore, 1) := dk_84 (dk_at dksX1_clear_1 9 rfl rfl)
theorem dX1_clear_32 : decode cX1_clear 32 = .ok (.iinc 1 1, 3) := dk_132 1 1 (dk_at dksX1_clear_1 10 rfl rfl)
theorem dX1_clear_35 : decode cX1_clear 35 = .ok (.goto (-17), 3) := dk_167 255 239 (dk_at dksX1_clear_1 13 rfl rfl)
theorem dX1_clear_38 : decode cX1_clear 38 = .ok (.iconst 0, 1) := dk_3 (dk_at dksX1_clear_1 16 rfl rfl)
theorem dX1_clear_39 : decode cX1_clear 39 = .ok (.istore_n 1, 1) := dk_60 (dk_at dksX1_clear_1 17 rfl rfl)
theorem dX1_clear_40 : decode cX1_clear 40 = .ok (.iload_n 1, 1) := dk_27 (dk_at dksX1_clear_1 18 rfl rfl)
theorem dX1_clear_41 : decode cX1_clear 41 = .ok (.bipush 22, 2) := dk_16 22 (dk_at dksX1_clear_1 19 rfl rfl)
theorem dX1_clear_43 : decode cX1_clear 43 = .ok (.if_icmp .ge 16, 3) := dk_162 0 16 (dk_at dksX1_clear_1 21 rfl rfl)
theorem dX1_clear_46 : decode cX1_clear 46 = .ok (.aload_n 0, 1) := dk_42 (dk_at dksX1_clear_2 0 rfl rfl)
theorem dX1_clear_47 : decode cX1_clear 47 = .ok (.getfield 32, 3) := dk_180 0 32 (dk_at dksX1_clear_2 1 rfl rfl)
theorem dX1_clear_50 : decode cX1_clear 50 = .ok (.iload_n 1, 1) := dk_27 (dk_at dksX1_clear_2 4 rfl rfl)
theorem dX1_clear_51 : decode cX1_clear 51 = .ok (.lconst 0, 1) := dk_9 (dk_at dksX1_clear_2 5 rfl rfl)
theorem dX1_clear_52 : decode cX1_clear 52 = .ok (.lastore, 1) := dk_80 (dk_at dksX1_clear_2 6 rfl rfl)
theorem dX1_clear_53 : decode cX1_clear 53 = .ok (.iinc 1 1, 3) := dk_132 1 1 (dk_at dksX1_clear_2 7 rfl rfl)
theorem dX1_clear_56 : decode cX1_clear 56 = .ok (.goto (-16), 3) := dk_167 255 240 (dk_at dksX1_clear_2 10 rfl rfl)
theorem dX1_clear_59 : decode cX1_clear 59 = .ok (.iconst 0, 1) := dk_3 (dk_at dksX1_clear_2 13 rfl rfl)
theorem dX1_clear_60 : decode cX1_clear 60 = .ok (.istore_n 1, 1) := dk_60 (dk_at dksX1_clear_2 14 rfl rfl)
theorem dX1_clear_61 : decode cX1_clear 61 = .ok (.iload_n 1, 1) := dk_27 (dk_at dksX1_clear_2 15 rfl rfl)
theorem dX1_clear_62 : decode cX1_clear 62 = .ok (.aload_n 0, 1) := dk_42 (dk_at dksX1_clear_2 16 rfl rfl)
theorem dX1_clear_63 : decode cX1_clear 63 = .ok (.getfield 45, 3) := dk_180 0 45 (dk_at dksX1_clear_2 17 rfl rfl)
theorem dX1_clear_66 : decode cX1_clear 66 = .ok (.arraylength, 1) := dk_190 (dk_at dksX1_clear_2 20 rfl rfl)
theorem dX1_clear_67 : decode cX1_clear 67 = .ok (.if_icmp .ge 18, 3) := dk_162 0 18 (dk_at dksX1_clear_2 21 rfl rfl)
theorem dX1_clear_70 : decode cX1_clear 70 = .ok (.aload_n 0, 1) := dk_42 (dk_at dksX1_clear_3 0 rfl rfl)
theorem dX1_clear_71 : decode cX1_clear 71 = .ok (.getfield 45, 3) := dk_180 0 45 (dk_at dksX1_clear_3 1 rfl rfl)
theorem dX1_clear_74 : decode cX1_clear 74 = .ok (.iload_n 1, 1) := dk_27 (dk_at dksX1_clear_3 4 rfl rfl)
theorem dX1_clear_75 : decode cX1_clear 75 = .ok (.sipush (-1005), 3) := dk_17 252 19 (dk_at dksX1_clear_3 5 rfl rfl)
theorem dX1_clear_78 : decode cX1_clear 78 = .ok (.iastore, 1) := dk_79 (dk_at dksX1_clear_3 8 rfl rfl)
theorem dX1_clear_79 : decode cX1_clear 79 = .ok (.iinc 1 1, 3) := dk_132 1 1 (dk_at dksX1_clear_3 9 rfl rfl)
theorem dX1_clear_82 : decode cX1_clear 82 = .ok (.goto (-21), 3) := dk_167 255 235 (dk_at dksX1_clear_3 12 rfl rfl)
theorem dX1_clear_85 : decode cX1_clear 85 = .ok (.iconst 1, 1) := dk_4 (dk_at dksX1_clear_3 15 rfl rfl)
theorem dX1_clear_86 : decode cX1_clear 86 = .ok (.istore_n 1, 1) := dk_60 (dk_at dksX1_clear_3 16 rfl rfl)
theorem dX1_clear_87 : decode cX1_clear 87 = .ok (.iload_n 1, 1) := dk_27 (dk_at dksX1_clear_3 17 rfl rfl)
theorem dX1_clear_88 : decode cX1_clear 88 = .ok (.aload_n 0, 1) := dk_42 (dk_at dksX1_clear_3 18 rfl rfl)
theorem dX1_clear_89 : decode cX1_clear 89 = .ok (.getfield 121, 3) := dk_180 0 121 (dk_at dksX1_clear_3 19 rfl rfl)
theorem dX1_clear_92 : decode cX1_clear 92 = .ok (.if_icmp .gt 44, 3) := dk_163 0 44 (dk_at dksX1_clear_4 0 rfl rfl)
theorem dX1_clear_95 : decode cX1_clear 95 = .ok (.aload_n 0, 1) := dk_42 (dk_at dksX1_clear_4 3 rfl rfl)
theorem dX1_clear_96 : decode cX1_clear 96 = .ok (.getfield 48, 3) := dk_180 0 48 (dk_at dksX1_clear_4 4 rfl rfl)
theorem dX1_clear_99 : decode cX1_clear 99 = .ok (.iload_n 1, 1) := dk_27 (dk_at dksX1_clear_4 7 rfl rfl)
theorem dX1_clear_100 : decode cX1_clear 100 = .ok (.iconst 0, 1) := dk_3 (dk_at dksX1_clear_4 8 rfl rfl)
theorem dX1_clear_101 : decode cX1_clear 101 = .ok (.iastore, 1) := dk_79 (dk_at dksX1_clear_4 9 rfl rfl)
theorem dX1_clear_102 : decode cX1_clear 102 = .ok (.aload_n 0, 1) := dk_42 (dk_at dksX1_clear_4 10 rfl rfl)
theorem dX1_clear_103 : decode cX1_clear 103 = .ok (.getfield 57, 3) := dk_180 0 57 (dk_at dksX1_clear_4 11 rfl rfl)
theorem dX1_clear_106 : decode cX1_clear 106 = .ok (.iload_n 1, 1) := dk_27 (dk_at dksX1_clear_4 14 rfl rfl)
theorem dX1_clear_107 : decode cX1_clear 107 = .ok (.iconst 0, 1) := dk_3 (dk_at dksX1_clear_4 15 rfl rfl)
theorem dX1_clear_108 : decode cX1_clear 108 = .ok (.iastore, 1) := dk_79 (dk_at dksX1_clear_4 16 rfl rfl)
theorem dX1_clear_109 : decode cX1_clear 109 = .ok (.aload_n 0, 1) := dk_42 (dk_at dksX1_clear_4 17 rfl rfl)
theorem dX1_clear_110 : decode cX1_clear 110 = .ok (.getfield 60, 3) := dk_180 0 60 (dk_at dksX1_clear_4 18 rfl rfl)
theorem dX1_clear_113 : decode cX1_clear 113 = .ok (.iload_n 1, 1) := dk_27 (dk_at dksX1_clear_4 21 rfl rfl)
theorem dX1_clear_114 : decode cX1_clear 114 = .ok (.aload_n 0, 1) := dk_42 (dk_at dksX1_clear_4 22 rfl rfl)
theorem dX1_clear_115 : decode cX1_clear 115 = .ok (.getfield 3, 3) := dk_180 0 3 (dk_at dksX1_clear_5 0 rfl rfl)
theorem dX1_clear_118 : decode cX1_clear 118 = .ok (.getfield 127, 3) := dk_180 0 127 (dk_at dksX1_clear_5 3 rfl rfl)
theorem dX1_clear_121 : decode cX1_clear 121 = .ok (.iload_n 1, 1) := dk_27 (dk_at dksX1_clear_5 6 rfl rfl)
theorem dX1_clear_122 : decode cX1_clear 122 = .ok (.iconst 1, 1) := dk_4 (dk_at dksX1_clear_5 7 rfl rfl)
theorem dX1_clear_123 : decode cX1_clear 123 = .ok (.isub, 1) := dk_100 (dk_at dksX1_clear_5 8 rfl rfl)
theorem dX1_clear_124 : decode cX1_clear 124 = .ok (.aaload, 1) := dk_50 (dk_at dksX1_clear_5 9 rfl rfl)
theorem dX1_clear_125 : decode cX1_clear 125 = .ok (.getfield 131, 3) := dk_180 0 131 (dk_at dksX1_clear_5 10 rfl rfl)
theorem dX1_clear_128 : decode cX1_clear 128 = .ok (.i2l, 1) := dk_133 (dk_at dksX1_clear_5 13 rfl rfl)
theorem dX1_clear_129 : decode cX1_clear 129 = .ok (.lastore, 1) := dk_80 (dk_at dksX1_clear_5 14 rfl rfl)
theorem dX1_clear_130 : decode cX1_clear 130 = .ok (.iinc 1 1, 3) := dk_132 1 1 (dk_at dksX1_clear_5 15 rfl rfl)
theorem dX1_clear_133 : decode cX1_clear 133 = .ok (.goto (-46), 3) := dk_167 255 210 (dk_at dksX1_clear_5 18 rfl rfl)
theorem dX1_clear_136 : decode cX1_clear 136 = .ok (.aload_n 0, 1) := dk_42 (dk_at dksX1_clear_5 21 rfl rfl)
theorem dX1_clear_137 : decode cX1_clear 137 = .ok (.iconst 0, 1) := dk_3 (dk_at dksX1_clear_5 22 rfl rfl)
theorem dX1_clear_138 : decode cX1_clear 138 = .ok (.putfield 136, 3) := dk_181 0 136 (dk_at dksX1_clear_6 0 rfl rfl)
theorem dX1_clear_141 : decode cX1_clear 141 = .ok (.aload_n 0, 1) := dk_42 (dk_at dksX1_clear_6 3 rfl rfl)
theorem dX1_clear_142 : decode cX1_clear 142 = .ok (.iconst 0, 1) := dk_3 (dk_at dksX1_clear_6 4 rfl rfl)
theorem dX1_clear_143 : decode cX1_clear 143 = .ok (.putfield 139, 3) := dk_181 0 139 (dk_at dksX1_clear_6 5 rfl rfl)
theorem dX1_clear_146 : decode cX1_clear 146 = .ok (.aload_n 0, 1) := dk_42 (dk_at dksX1_clear_6 8 rfl rfl)
theorem dX1_clear_147 : decode cX1_clear 147 = .ok (.ldc2_w 142, 3) := dk_20 0 142 (dk_at dksX1_clear_6 9 rfl rfl)
theorem dX1_clear_150 : decode cX1_clear 150 = .ok (.putfield 144, 3) := dk_181 0 144 (dk_at dksX1_clear_6 12 rfl rfl)
theorem dX1_clear_153 : decode cX1_clear 153 = .ok (.aload_n 0, 1) := dk_42 (dk_at dksX1_clear_6 15 rfl rfl)
theorem dX1_clear_154 : decode cX1_clear 154 = .ok (.iconst 0, 1) := dk_3 (dk_at dksX1_clear_6 16 rfl rfl)
theorem dX1_clear_155 : decode cX1_clear 155 = .ok (.putfield 148, 3) := dk_181 0 148 (dk_at dksX1_clear_6 17 rfl rfl)
theorem dX1_clear_158 : decode cX1_clear 158 = .ok (.aload_n 0, 1) := dk_42 (dk_at dksX1_clear_6 20 rfl rfl)
theorem dX1_clear_159 : decode cX1_clear 159 = .ok (.iconst 0, 1) := dk_3 (dk_at dksX1_clear_6 21 rfl rfl)
theorem dX1_clear_160 : decode cX1_clear 160 = .ok (.putfield 151, 3) := dk_181 0 151 (dk_at dksX1_clear_7 0 rfl rfl)
theorem dX1_clear_163 : decode cX1_clear 163 = .ok (.aload_n 0, 1) := dk_42 (dk_at dksX1_clear_7 3 rfl rfl)
theorem dX1_clear_164 : decode cX1_clear 164 = .ok (.iconst 0, 1) := dk_3 (dk_at dksX1_clear_7 4 rfl rfl)
theorem dX1_clear_165 : decode cX1_clear 165 = .ok (.putfield 154, 3) := dk_181 0 154 (dk_at dksX1_clear_7 5 rfl rfl)
theorem dX1_clear_168 : decode cX1_clear 168 = .ok (.aload_n 0, 1) := dk_42 (dk_at dksX1_clear_7 8 rfl rfl)
theorem dX1_clear_169 : decode cX1_clear 169 = .ok (.sipush (-1005), 3) := dk_17 252 19 (dk_at dksX1_clear_7 9 rfl rfl)
theorem dX1_clear_172 : decode cX1_clear 172 = .ok (.putfield 81, 3) := dk_181 0 81 (dk_at dksX1_clear_7 12 rfl rfl)
theorem dX1_clear_175 : decode cX1_clear 175 = .ok (.aload_n 0, 1) := dk_42 (dk_at dksX1_clear_7 15 rfl rfl)
theorem dX1_clear_176 : decode cX1_clear 176 = .ok (.iconst 0, 1) := dk_3 (dk_at dksX1_clear_7 16 rfl rfl)
theorem dX1_clear_177 : decode cX1_clear 177 = .ok (.putfield 157, 3) := dk_181 0 157 (dk_at dksX1_clear_7 17 rfl rfl)
theorem dX1_clear_180 : decode cX1_clear 180 = .ok (.aload_n 0, 1) := dk_42 (dk_at dksX1_clear_7 20 rfl rfl)
theorem dX1_clear_181 : decode cX1_clear 181 = .ok (.iconst 0, 1) := dk_3 (dk_at dksX1_clear_7 21 rfl rfl)
theorem dX1_clear_182 : decode cX1_clear 182 = .ok (.putfield 160, 3) := dk_181 0 160 (dk_at dksX1_clear_8 0 rfl rfl)
theorem dX1_clear_185 : decode cX1_clear 185 = .ok (.aload_n 0, 1) := dk_42 (dk_at dksX1_clear_8 3 rfl rfl)
theorem dX1_clear_186 : decode cX1_clear 186 = .ok (.iconst 0, 1) := dk_3 (dk_at dksX1_clear_8 4 rfl rfl)
theorem dX1_clear_187 : decode cX1_clear 187 = .ok (.putfield 163, 3) := dk_181 0 163 (dk_at dksX1_clear_8 5 rfl rfl)
theorem dX1_clear_190 : decode cX1_clear 190 = .ok (.aload_n 0, 1) := dk_42 (dk_at dksX1_clear_8 8 rfl rfl)
theorem dX1_clear_191 : decode cX1_clear 191 = .ok (.iconst 0, 1) := dk_3 (dk_at dksX1_clear_8 9 rfl rfl)
theorem dX1_clear_192 : decode cX1_clear 192 = .ok (.putfield 166, 3) := dk_181 0 166 (dk_at dksX1_clear_8 10 rfl rfl)
theorem dX1_clear_195 : decode cX1_clear 195 = .ok (.aload_n 0, 1) := dk_42 (dk_at dksX1_clear_8 13 rfl rfl)
theorem dX1_clear_196 : decode cX1_clear 196 = .ok (.iconst 0, 1) := dk_3 (dk_at dksX1_clear_8 14 rfl rfl)
theorem dX1_clear_197 : decode cX1_clear 197 = .ok (.putfield 169, 3) := dk_181 0 169 (dk_at dksX1_clear_8 15 rfl rfl)
theorem dX1_clear_200 : decode cX1_clear 200 = .ok (.aload_n 0, 1) := dk_42 (dk_at dksX1_clear_8 18 rfl rfl)
theorem dX1_clear_201 : decode cX1_clear 201 = .ok (.iconst 0, 1) := dk_3 (dk_at dksX1_clear_8 19 rfl rfl)
theorem dX1_clear_202 : decode cX1_clear 202 = .ok (.putfield 172, 3) := dk_181 0 172 (dk_at dksX1_clear_8 20 rfl rfl)
theorem dX1_clear_205 : decode cX1_clear 205 = .ok (.aload_n 0, 1) := dk_42 (dk_at dksX1_clear_8 23 rfl rfl)
theorem dX1_clear_206 : decode cX1_clear 206 = .ok (.iconst 0, 1) := dk_3 (dk_at dksX1_clear_9 0 rfl rfl)
theorem dX1_clear_207 : decode cX1_clear 207 = .ok (.putfield 175, 3) := dk_181 0 175 (dk_at dksX1_clear_9 1 rfl rfl)
theorem dX1_clear_210 : decode cX1_clear 210 = .ok (.aload_n 0, 1) := dk_42 (dk_at dksX1_clear_9 4 rfl rfl)
theorem dX1_clear_211 : decode cX1_clear 211 = .ok (.iconst 0, 1) := dk_3 (dk_at dksX1_clear_9 5 rfl rfl)
theorem dX1_clear_212 : decode cX1_clear 212 = .ok (.putfield 178, 3) := dk_181 0 178 (dk_at dksX1_clear_9 6 rfl rfl)
theorem dX1_clear_215 : decode cX1_clear 215 = .ok (.aload_n 0, 1) := dk_42 (dk_at dksX1_clear_9 9 rfl rfl)
theorem dX1_clear_216 : decode cX1_clear 216 = .ok (.iconst 0, 1) := dk_3 (dk_at dksX1_clear_9 10 rfl rfl)
theorem dX1_clear_217 : decode cX1_clear 217 = .ok (.putfield 181, 3) := dk_181 0 181 (dk_at dksX1_clear_9 11 rfl rfl)
theorem dX1_clear_220 : decode cX1_clear 220 = .ok (.aload_n 0, 1) := dk_42 (dk_at dksX1_clear_9 14 rfl rfl)
theorem dX1_clear_221 : decode cX1_clear 221 = .ok (.iconst 1, 1) := dk_4 (dk_at dksX1_clear_9 15 rfl rfl)
theorem dX1_clear_222 : decode cX1_clear 222 = .ok (.putfield 184, 3) := dk_181 0 184 (dk_at dksX1_clear_9 16 rfl rfl)
theorem dX1_clear_225 : decode cX1_clear 225 = .ok (.aload_n 0, 1) := dk_42 (dk_at dksX1_clear_9 19 rfl rfl)
theorem dX1_clear_226 : decode cX1_clear 226 = .ok (.iconst 0, 1) := dk_3 (dk_at dksX1_clear_9 20 rfl rfl)
theorem dX1_clear_227 : decode cX1_clear 227 = .ok (.putfield 187, 3) := dk_181 0 187 (dk_at dksX1_clear_9 21 rfl rfl)
theorem dX1_clear_230 : decode cX1_clear 230 = .ok (.aload_n 0, 1) := dk_42 (dk_at dksX1_clear_10 0 rfl rfl)
theorem dX1_clear_231 : decode cX1_clear 231 = .ok (.iconst 0, 1) := dk_3 (dk_at dksX1_clear_10 1 rfl rfl)
theorem dX1_clear_232 : decode cX1_clear 232 = .ok (.putfield 191, 3) := dk_181 0 191 (dk_at dksX1_clear_10 2 rfl rfl)
theorem dX1_clear_235 : decode cX1_clear 235 = .ok (.return_, 1) := dk_177 (dk_at dksX1_clear_10 5 rfl rfl)
abbrev cX1_layCase : ByteArray := prog_5_method_5_code
def yX1_layCase : MethodName := ⟨RX1, "layCase", "([Z)V"⟩
def dkwX1_layCase_2 : List UInt8 := [28, 4, 96, 46, 182, 0, 215, 132, 2, 1, 167, 255, 200, 177]
abbrev dktX1_layCase_2 : List UInt8 := dkwX1_layCase_2 ++ []
def dkwX1_layCase_1 : List UInt8 := [28, 42, 180, 0, 3, 180, 0, 209, 42, 180, 0, 3, 180, 0, 212, 28, 46, 42, 180, 0, 3, 180, 0, 212]
abbrev dktX1_layCase_1 : List UInt8 := dkwX1_layCase_1 ++ dktX1_layCase_2
def dkwX1_layCase_0 : List UInt8 := [3, 61, 28, 42, 180, 0, 3, 180, 0, 206, 162, 0, 51, 43, 198, 0, 9, 43, 28, 51, 154, 0, 35, 42]
abbrev dktX1_layCase_0 : List UInt8 := dkwX1_layCase_0 ++ dktX1_layCase_1
theorem dksX1_layCase_0 : cX1_layCase.data.toList.drop 0 = dktX1_layCase_0 := by decide +kernel
theorem dksX1_layCase_1 : cX1_layCase.data.toList.drop 24 = dktX1_layCase_1 := dk_seg dksX1_layCase_0 24 rfl rfl
theorem dksX1_layCase_2 : cX1_layCase.data.toList.drop 48 = dktX1_layCase_2 := dk_seg dksX1_layCase_1 24 rfl rfl
theorem dX1_layCase_0 : decode cX1_layCase 0 = .ok (.iconst 0, 1) := dk_3 (dk_at dksX1_layCase_0 0 rfl rfl)
theorem dX1_layCase_1 : decode cX1_layCase 1 = .ok (.istore_n 2, 1) := dk_61 (dk_at dksX1_layCase_0 1 rfl rfl)
theorem dX1_layCase_2 : decode cX1_layCase 2 = .ok (.iload_n 2, 1) := dk_28 (dk_at dksX1_layCase_0 2 rfl rfl)
theorem dX1_layCase_3 : decode cX1_layCase 3 = .ok (.aload_n 0, 1) := dk_42 (dk_at dksX1_layCase_0 3 rfl rfl)
theorem dX1_layCase_4 : decode cX1_layCase 4 = .ok (.getfield 3, 3) := dk_180 0 3 (dk_at dksX1_layCase_0 4 rfl rfl)
theorem dX1_layCase_7 : decode cX1_layCase 7 = .ok (.getfield 206, 3) := dk_180 0 206 (dk_at dksX1_layCase_0 7 rfl rfl)
theorem dX1_layCase_10 : decode cX1_layCase 10 = .ok (.if_icmp .ge 51, 3) := dk_162 0 51 (dk_at dksX1_layCase_0 10 rfl rfl)
theorem dX1_layCase_13 : decode cX1_layCase 13 = .ok (.aload_n 1, 1) := dk_43 (dk_at dksX1_layCase_0 13 rfl rfl)
theorem dX1_layCase_14 : decode cX1_layCase 14 = .ok (.ifnull 9, 3) := dk_198 0 9 (dk_at dksX1_layCase_0 14 rfl rfl)
theorem dX1_layCase_17 : decode cX1_layCase 17 = .ok (.aload_n 1, 1) := dk_43 (dk_at dksX1_layCase_0 17 rfl rfl)
theorem dX1_layCase_18 : decode cX1_layCase 18 = .ok (.iload_n 2, 1) := dk_28 (dk_at dksX1_layCase_0 18 rfl rfl)
theorem dX1_layCase_19 : decode cX1_layCase 19 = .ok (.baload, 1) := dk_51 (dk_at dksX1_layCase_0 19 rfl rfl)
theorem dX1_layCase_20 : decode cX1_layCase 20 = .ok (.ifCond .ne 35, 3) := dk_154 0 35 (dk_at dksX1_layCase_0 20 rfl rfl)
theorem dX1_layCase_23 : decode cX1_layCase 23 = .ok (.aload_n 0, 1) := dk_42 (dk_at dksX1_layCase_0 23 rfl rfl)
theorem dX1_layCase_24 : decode cX1_layCase 24 = .ok (.iload_n 2, 1) := dk_28 (dk_at dksX1_layCase_1 0 rfl rfl)
theorem dX1_layCase_25 : decode cX1_layCase 25 = .ok (.aload_n 0, 1) := dk_42 (dk_at dksX1_layCase_1 1 rfl rfl)
theorem dX1_layCase_26 : decode cX1_layCase 26 = .ok (.getfield 3, 3) := dk_180 0 3 (dk_at dksX1_layCase_1 2 rfl rfl)
theorem dX1_layCase_29 : decode cX1_layCase 29 = .ok (.getfield 209, 3) := dk_180 0 209 (dk_at dksX1_layCase_1 5 rfl rfl)
theorem dX1_layCase_32 : decode cX1_layCase 32 = .ok (.aload_n 0, 1) := dk_42 (dk_at dksX1_layCase_1 8 rfl rfl)
theorem dX1_layCase_33 : decode cX1_layCase 33 = .ok (.getfield 3, 3) := dk_180 0 3 (dk_at dksX1_layCase_1 9 rfl rfl)
theorem dX1_layCase_36 : decode cX1_layCase 36 = .ok (.getfield 212, 3) := dk_180 0 212 (dk_at dksX1_layCase_1 12 rfl rfl)
theorem dX1_layCase_39 : decode cX1_layCase 39 = .ok (.iload_n 2, 1) := dk_28 (dk_at dksX1_layCase_1 15 rfl rfl)
theorem dX1_layCase_40 : decode cX1_layCase 40 = .ok (.iaload, 1) := dk_46 (dk_at dksX1_layCase_1 16 rfl rfl)
theorem dX1_layCase_41 : decode cX1_layCase 41 = .ok (.aload_n 0, 1) := dk_42 (dk_at dksX1_layCase_1 17 rfl rfl)
theorem dX1_layCase_42 : decode cX1_layCase 42 = .ok (.getfield 3, 3) := dk_180 0 3 (dk_at dksX1_layCase_1 18 rfl rfl)
theorem dX1_layCase_45 : decode cX1_layCase 45 = .ok (.getfield 212, 3) := dk_180 0 212 (dk_at dksX1_layCase_1 21 rfl rfl)
theorem dX1_layCase_48 : decode cX1_layCase 48 = .ok (.iload_n 2, 1) := dk_28 (dk_at dksX1_layCase_2 0 rfl rfl)
theorem dX1_layCase_49 : decode cX1_layCase 49 = .ok (.iconst 1, 1) := dk_4 (dk_at dksX1_layCase_2 1 rfl rfl)
theorem dX1_layCase_50 : decode cX1_layCase 50 = .ok (.iadd, 1) := dk_96 (dk_at dksX1_layCase_2 2 rfl rfl)
theorem dX1_layCase_51 : decode cX1_layCase 51 = .ok (.iaload, 1) := dk_46 (dk_at dksX1_layCase_2 3 rfl rfl)
theorem dX1_layCase_52 : decode cX1_layCase 52 = .ok (.invokevirtual 215, 3) := dk_182 0 215 (dk_at dksX1_layCase_2 4 rfl rfl)
theorem dX1_layCase_55 : decode cX1_layCase 55 = .ok (.iinc 2 1, 3) := dk_132 2 1 (dk_at dksX1_layCase_2 7 rfl rfl)
theorem dX1_layCase_58 : decode cX1_layCase 58 = .ok (.goto (-56), 3) := dk_167 255 200 (dk_at dksX1_layCase_2 10 rfl rfl)
theorem dX1_layCase_61 : decode cX1_layCase 61 = .ok (.return_, 1) := dk_177 (dk_at dksX1_layCase_2 13 rfl rfl)
abbrev cX1_lay : ByteArray := prog_5_method_4_code
def yX1_lay : MethodName := ⟨RX1, "lay", "(I[III)V"⟩
def dkwX1_lay_7 : List UInt8 := [96, 79, 132, 5, 1, 167, 255, 127, 42, 27, 182, 0, 202, 177]
abbrev dktX1_lay_7 : List UInt8 := dkwX1_lay_7 ++ []
def dkwX1_lay_6 : List UInt8 := [96, 79, 42, 180, 0, 22, 27, 92, 46, 42, 21, 6, 116, 182, 0, 198, 153, 0, 7, 4, 167, 0, 4, 3]
abbrev dktX1_lay_6 : List UInt8 := dkwX1_lay_6 ++ dktX1_lay_7
def dkwX1_lay_5 : List UInt8 := [181, 0, 124, 42, 180, 0, 25, 27, 92, 46, 42, 21, 6, 182, 0, 198, 153, 0, 7, 4, 167, 0, 4, 3]
abbrev dktX1_lay_5 : List UInt8 := dkwX1_lay_5 ++ dktX1_lay_6
def dkwX1_lay_4 : List UInt8 := [46, 79, 42, 180, 0, 45, 42, 21, 6, 182, 0, 194, 42, 180, 0, 124, 79, 42, 89, 180, 0, 124, 4, 96]
abbrev dktX1_lay_4 : List UInt8 := dkwX1_lay_4 ++ dktX1_lay_5
def dkwX1_lay_3 : List UInt8 := [42, 180, 0, 124, 27, 79, 42, 180, 0, 42, 42, 180, 0, 124, 42, 180, 0, 45, 42, 21, 6, 182, 0, 194]
abbrev dktX1_lay_3 : List UInt8 := dkwX1_lay_3 ++ dktX1_lay_4
def dkwX1_lay_2 : List UInt8 := [162, 0, 128, 44, 21, 5, 46, 54, 6, 42, 180, 0, 36, 42, 180, 0, 124, 21, 6, 79, 42, 180, 0, 39]
abbrev dktX1_lay_2 : List UInt8 := dkwX1_lay_2 ++ dktX1_lay_3
def dkwX1_lay_1 : List UInt8 := [27, 3, 79, 42, 180, 0, 25, 27, 3, 79, 42, 180, 0, 28, 27, 4, 84, 29, 54, 5, 21, 5, 21, 4]
abbrev dktX1_lay_1 : List UInt8 := dkwX1_lay_1 ++ dktX1_lay_2
def dkwX1_lay_0 : List UInt8 := [42, 180, 0, 15, 27, 42, 180, 0, 124, 79, 42, 180, 0, 19, 27, 21, 4, 29, 100, 79, 42, 180, 0, 22]
abbrev dktX1_lay_0 : List UInt8 := dkwX1_lay_0 ++ dktX1_lay_1
theorem dksX1_lay_0 : cX1_lay.data.toList.drop 0 = dktX1_lay_0 := by decide +kernel
theorem dksX1_lay_1 : cX1_lay.data.toList.drop 24 = dktX1_lay_1 := dk_seg dksX1_lay_0 24 rfl rfl
theorem dksX1_lay_2 : cX1_lay.data.toList.drop 48 = dktX1_lay_2 := dk_seg dksX1_lay_1 24 rfl rfl
theorem dksX1_lay_3 : cX1_lay.data.toList.drop 72 = dktX1_lay_3 := dk_seg dksX1_lay_2 24 rfl rfl
theorem dksX1_lay_4 : cX1_lay.data.toList.drop 96 = dktX1_lay_4 := dk_seg dksX1_lay_3 24 rfl rfl
theorem dksX1_lay_5 : cX1_lay.data.toList.drop 120 = dktX1_lay_5 := dk_seg dksX1_lay_4 24 rfl rfl
theorem dksX1_lay_6 : cX1_lay.data.toList.drop 144 = dktX1_lay_6 := dk_seg dksX1_lay_5 24 rfl rfl
theorem dksX1_lay_7 : cX1_lay.data.toList.drop 168 = dktX1_lay_7 := dk_seg dksX1_lay_6 24 rfl rfl
theorem dX1_lay_0 : decode cX1_lay 0 = .ok (.aload_n 0, 1) := dk_42 (dk_at dksX1_lay_0 0 rfl rfl)
theorem dX1_lay_1 : decode cX1_lay 1 = .ok (.getfield 15, 3) := dk_180 0 15 (dk_at dksX1_lay_0 1 rfl rfl)
theorem dX1_lay_4 : decode cX1_lay 4 = .ok (.iload_n 1, 1) := dk_27 (dk_at dksX1_lay_0 4 rfl rfl)
theorem dX1_lay_5 : decode cX1_lay 5 = .ok (.aload_n 0, 1) := dk_42 (dk_at dksX1_lay_0 5 rfl rfl)
theorem dX1_lay_6 : decode cX1_lay 6 = .ok (.getfield 124, 3) := dk_180 0 124 (dk_at dksX1_lay_0 6 rfl rfl)
theorem dX1_lay_9 : decode cX1_lay 9 = .ok (.iastore, 1) := dk_79 (dk_at dksX1_lay_0 9 rfl rfl)
theorem dX1_lay_10 : decode cX1_lay 10 = .ok (.aload_n 0, 1) := dk_42 (dk_at dksX1_lay_0 10 rfl rfl)
theorem dX1_lay_11 : decode cX1_lay 11 = .ok (.getfield 19, 3) := dk_180 0 19 (dk_at dksX1_lay_0 11 rfl rfl)
theorem dX1_lay_14 : decode cX1_lay 14 = .ok (.iload_n 1, 1) := dk_27 (dk_at dksX1_lay_0 14 rfl rfl)
theorem dX1_lay_15 : decode cX1_lay 15 = .ok (.iload 4, 2) := dk_21 4 (dk_at dksX1_lay_0 15 rfl rfl)
theorem dX1_lay_17 : decode cX1_lay 17 = .ok (.iload_n 3, 1) := dk_29 (dk_at dksX1_lay_0 17 rfl rfl)
theorem dX1_lay_18 : decode cX1_lay 18 = .ok (.isub, 1) := dk_100 (dk_at dksX1_lay_0 18 rfl rfl)
theorem dX1_lay_19 : decode cX1_lay 19 = .ok (.iastore, 1) := dk_79 (dk_at dksX1_lay_0 19 rfl rfl)
theorem dX1_lay_20 : decode cX1_lay 20 = .ok (.aload_n 0, 1) := dk_42 (dk_at dksX1_lay_0 20 rfl rfl)
theorem dX1_lay_21 : decode cX1_lay 21 = .ok (.getfield 22, 3) := dk_180 0 22 (dk_at dksX1_lay_0 21 rfl rfl)
theorem dX1_lay_24 : decode cX1_lay 24 = .ok (.iload_n 1, 1) := dk_27 (dk_at dksX1_lay_1 0 rfl rfl)
theorem dX1_lay_25 : decode cX1_lay 25 = .ok (.iconst 0, 1) := dk_3 (dk_at dksX1_lay_1 1 rfl rfl)
theorem dX1_lay_26 : decode cX1_lay 26 = .ok (.iastore, 1) := dk_79 (dk_at dksX1_lay_1 2 rfl rfl)
theorem dX1_lay_27 : decode cX1_lay 27 = .ok (.aload_n 0, 1) := dk_42 (dk_at dksX1_lay_1 3 rfl rfl)
theorem dX1_lay_28 : decode cX1_lay 28 = .ok (.getfield 25, 3) := dk_180 0 25 (dk_at dksX1_lay_1 4 rfl rfl)
theorem dX1_lay_31 : decode cX1_lay 31 = .ok (.iload_n 1, 1) := dk_27 (dk_at dksX1_lay_1 7 rfl rfl)
theorem dX1_lay_32 : decode cX1_lay 32 = .ok (.iconst 0, 1) := dk_3 (dk_at dksX1_lay_1 8 rfl rfl)
theorem dX1_lay_33 : decode cX1_lay 33 = .ok (.iastore, 1) := dk_79 (dk_at dksX1_lay_1 9 rfl rfl)
theorem dX1_lay_34 : decode cX1_lay 34 = .ok (.aload_n 0, 1) := dk_42 (dk_at dksX1_lay_1 10 rfl rfl)
theorem dX1_lay_35 : decode cX1_lay 35 = .ok (.getfield 28, 3) := dk_180 0 28 (dk_at dksX1_lay_1 11 rfl rfl)
theorem dX1_lay_38 : decode cX1_lay 38 = .ok (.iload_n 1, 1) := dk_27 (dk_at dksX1_lay_1 14 rfl rfl)
theorem dX1_lay_39 : decode cX1_lay 39 = .ok (.iconst 1, 1) := dk_4 (dk_at dksX1_lay_1 15 rfl rfl)
theorem dX1_lay_40 : decode cX1_lay 40 = .ok (.bastore, 1) := dk_84 (dk_at dksX1_lay_1 16 rfl rfl)
theorem dX1_lay_41 : decode cX1_lay 41 = .ok (.iload_n 3, 1) := dk_29 (dk_at dksX1_lay_1 17 rfl rfl)
theorem dX1_lay_42 : decode cX1_lay 42 = .ok (.istore 5, 2) := dk_54 5 (dk_at dksX1_lay_1 18 rfl rfl)
theorem dX1_lay_44 : decode cX1_lay 44 = .ok (.iload 5, 2) := dk_21 5 (dk_at dksX1_lay_1 20 rfl rfl)
theorem dX1_lay_46 : decode cX1_lay 46 = .ok (.iload 4, 2) := dk_21 4 (dk_at dksX1_lay_1 22 rfl rfl)
theorem dX1_lay_48 : decode cX1_lay 48 = .ok (.if_icmp .ge 128, 3) := dk_162 0 128 (dk_at dksX1_lay_2 0 rfl rfl)
theorem dX1_lay_51 : decode cX1_lay 51 = .ok (.aload_n 2, 1) := dk_44 (dk_at dksX1_lay_2 3 rfl rfl)
theorem dX1_lay_52 : decode cX1_lay 52 = .ok (.iload 5, 2) := dk_21 5 (dk_at dksX1_lay_2 4 rfl rfl)
theorem dX1_lay_54 : decode cX1_lay 54 = .ok (.iaload, 1) := dk_46 (dk_at dksX1_lay_2 6 rfl rfl)
theorem dX1_lay_55 : decode cX1_lay 55 = .ok (.istore 6, 2) := dk_54 6 (dk_at dksX1_lay_2 7 rfl rfl)
theorem dX1_lay_57 : decode cX1_lay 57 = .ok (.aload_n 0, 1) := dk_42 (dk_at dksX1_lay_2 9 rfl rfl)
theorem dX1_lay_58 : decode cX1_lay 58 = .ok (.getfield 36, 3) := dk_180 0 36 (dk_at dksX1_lay_2 10 rfl rfl)
theorem dX1_lay_61 : decode cX1_lay 61 = .ok (.aload_n 0, 1) := dk_42 (dk_at dksX1_lay_2 13 rfl rfl)
theorem dX1_lay_62 : decode cX1_lay 62 = .ok (.getfield 124, 3) := dk_180 0 124 (dk_at dksX1_lay_2 14 rfl rfl)
theorem dX1_lay_65 : decode cX1_lay 65 = .ok (.iload 6, 2) := dk_21 6 (dk_at dksX1_lay_2 17 rfl rfl)
theorem dX1_lay_67 : decode cX1_lay 67 = .ok (.iastore, 1) := dk_79 (dk_at dksX1_lay_2 19 rfl rfl)
theorem dX1_lay_68 : decode cX1_lay 68 = .ok (.aload_n 0, 1) := dk_42 (dk_at dksX1_lay_2 20 rfl rfl)
theorem dX1_lay_69 : decode cX1_lay 69 = .ok (.getfield 39, 3) := dk_180 0 39 (dk_at dksX1_lay_2 21 rfl rfl)
theorem dX1_lay_72 : decode cX1_lay 72 = .ok (.aload_n 0, 1) := dk_42 (dk_at dksX1_lay_3 0 rfl rfl)
theorem dX1_lay_73 : decode cX1_lay 73 = .ok (.getfield 124, 3) := dk_180 0 124 (dk_at dksX1_lay_3 1 rfl rfl)
theorem dX1_lay_76 : decode cX1_lay 76 = .ok (.iload_n 1, 1) := dk_27 (dk_at dksX1_lay_3 4 rfl rfl)
theorem dX1_lay_77 : decode cX1_lay 77 = .ok (.iastore, 1) := dk_79 (dk_at dksX1_lay_3 5 rfl rfl)
theorem dX1_lay_78 : decode cX1_lay 78 = .ok (.aload_n 0, 1) := dk_42 (dk_at dksX1_lay_3 6 rfl rfl)
theorem dX1_lay_79 : decode cX1_lay 79 = .ok (.getfield 42, 3) := dk_180 0 42 (dk_at dksX1_lay_3 7 rfl rfl)
theorem dX1_lay_82 : decode cX1_lay 82 = .ok (.aload_n 0, 1) := dk_42 (dk_at dksX1_lay_3 10 rfl rfl)
theorem dX1_lay_83 : decode cX1_lay 83 = .ok (.getfield 124, 3) := dk_180 0 124 (dk_at dksX1_lay_3 11 rfl rfl)
theorem dX1_lay_86 : decode cX1_lay 86 = .ok (.aload_n 0, 1) := dk_42 (dk_at dksX1_lay_3 14 rfl rfl)
theorem dX1_lay_87 : decode cX1_lay 87 = .ok (.getfield 45, 3) := dk_180 0 45 (dk_at dksX1_lay_3 15 rfl rfl)
theorem dX1_lay_90 : decode cX1_lay 90 = .ok (.aload_n 0, 1) := dk_42 (dk_at dksX1_lay_3 18 rfl rfl)
theorem dX1_lay_91 : decode cX1_lay 91 = .ok (.iload 6, 2) := dk_21 6 (dk_at dksX1_lay_3 19 rfl rfl)
theorem dX1_lay_93 : decode cX1_lay 93 = .ok (.invokevirtual 194, 3) := dk_182 0 194 (dk_at dksX1_lay_3 21 rfl rfl)
theorem dX1_lay_96 : decode cX1_lay 96 = .ok (.iaload, 1) := dk_46 (dk_at dksX1_lay_4 0 rfl rfl)
theorem dX1_lay_97 : decode cX1_lay 97 = .ok (.iastore, 1) := dk_79 (dk_at dksX1_lay_4 1 rfl rfl)
theorem dX1_lay_98 : decode cX1_lay 98 = .ok (.aload_n 0, 1) := dk_42 (dk_at dksX1_lay_4 2 rfl rfl)
theorem dX1_lay_99 : decode cX1_lay 99 = .ok (.getfield 45, 3) := dk_180 0 45 (dk_at dksX1_lay_4 3 rfl rfl)
theorem dX1_lay_102 : decode cX1_lay 102 = .ok (.aload_n 0, 1) := dk_42 (dk_at dksX1_lay_4 6 rfl rfl)
theorem dX1_lay_103 : decode cX1_lay 103 = .ok (.iload 6, 2) := dk_21 6 (dk_at dksX1_lay_4 7 rfl rfl)
theorem dX1_lay_105 : decode cX1_lay 105 = .ok (.invokevirtual 194, 3) := dk_182 0 194 (dk_at dksX1_lay_4 9 rfl rfl)
theorem dX1_lay_108 : decode cX1_lay 108 = .ok (.aload_n 0, 1) := dk_42 (dk_at dksX1_lay_4 12 rfl rfl)
theorem dX1_lay_109 : decode cX1_lay 109 = .ok (.getfield 124, 3) := dk_180 0 124 (dk_at dksX1_lay_4 13 rfl rfl)
theorem dX1_lay_112 : decode cX1_lay 112 = .ok (.iastore, 1) := dk_79 (dk_at dksX1_lay_4 16 rfl rfl)
theorem dX1_lay_113 : decode cX1_lay 113 = .ok (.aload_n 0, 1) := dk_42 (dk_at dksX1_lay_4 17 rfl rfl)
theorem dX1_lay_114 : decode cX1_lay 114 = .ok (.dup, 1) := dk_89 (dk_at dksX1_lay_4 18 rfl rfl)
theorem dX1_lay_115 : decode cX1_lay 115 = .ok (.getfield 124, 3) := dk_180 0 124 (dk_at dksX1_lay_4 19 rfl rfl)
theorem dX1_lay_118 : decode cX1_lay 118 = .ok (.iconst 1, 1) := dk_4 (dk_at dksX1_lay_4 22 rfl rfl)
theorem dX1_lay_119 : decode cX1_lay 119 = .ok (.iadd, 1) := dk_96 (dk_at dksX1_lay_4 23 rfl rfl)
theorem dX1_lay_120 : decode cX1_lay 120 = .ok (.putfield 124, 3) := dk_181 0 124 (dk_at dksX1_lay_5 0 rfl rfl)
theorem dX1_lay_123 : decode cX1_lay 123 = .ok (.aload_n 0, 1) := dk_42 (dk_at dksX1_lay_5 3 rfl rfl)
theorem dX1_lay_124 : decode cX1_lay 124 = .ok (.getfield 25, 3) := dk_180 0 25 (dk_at dksX1_lay_5 4 rfl rfl)
theorem dX1_lay_127 : decode cX1_lay 127 = .ok (.iload_n 1, 1) := dk_27 (dk_at dksX1_lay_5 7 rfl rfl)
theorem dX1_lay_128 : decode cX1_lay 128 = .ok (.dup2, 1) := dk_92 (dk_at dksX1_lay_5 8 rfl rfl)
theorem dX1_lay_129 : decode cX1_lay 129 = .ok (.iaload, 1) := dk_46 (dk_at dksX1_lay_5 9 rfl rfl)
theorem dX1_lay_130 : decode cX1_lay 130 = .ok (.aload_n 0, 1) := dk_42 (dk_at dksX1_lay_5 10 rfl rfl)
theorem dX1_lay_131 : decode cX1_lay 131 = .ok (.iload 6, 2) := dk_21 6 (dk_at dksX1_lay_5 11 rfl rfl)
theorem dX1_lay_133 : decode cX1_lay 133 = .ok (.invokevirtual 198, 3) := dk_182 0 198 (dk_at dksX1_lay_5 13 rfl rfl)
theorem dX1_lay_136 : decode cX1_lay 136 = .ok (.ifCond .eq 7, 3) := dk_153 0 7 (dk_at dksX1_lay_5 16 rfl rfl)
theorem dX1_lay_139 : decode cX1_lay 139 = .ok (.iconst 1, 1) := dk_4 (dk_at dksX1_lay_5 19 rfl rfl)
theorem dX1_lay_140 : decode cX1_lay 140 = .ok (.goto 4, 3) := dk_167 0 4 (dk_at dksX1_lay_5 20 rfl rfl)
theorem dX1_lay_143 : decode cX1_lay 143 = .ok (.iconst 0, 1) := dk_3 (dk_at dksX1_lay_5 23 rfl rfl)
theorem dX1_lay_144 : decode cX1_lay 144 = .ok (.iadd, 1) := dk_96 (dk_at dksX1_lay_6 0 rfl rfl)
theorem dX1_lay_145 : decode cX1_lay 145 = .ok (.iastore, 1) := dk_79 (dk_at dksX1_lay_6 1 rfl rfl)
theorem dX1_lay_146 : decode cX1_lay 146 = .ok (.aload_n 0, 1) := dk_42 (dk_at dksX1_lay_6 2 rfl rfl)
theorem dX1_lay_147 : decode cX1_lay 147 = .ok (.getfield 22, 3) := dk_180 0 22 (dk_at dksX1_lay_6 3 rfl rfl)
theorem dX1_lay_150 : decode cX1_lay 150 = .ok (.iload_n 1, 1) := dk_27 (dk_at dksX1_lay_6 6 rfl rfl)
theorem dX1_lay_151 : decode cX1_lay 151 = .ok (.dup2, 1) := dk_92 (dk_at dksX1_lay_6 7 rfl rfl)
theorem dX1_lay_152 : decode cX1_lay 152 = .ok (.iaload, 1) := dk_46 (dk_at dksX1_lay_6 8 rfl rfl)
theorem dX1_lay_153 : decode cX1_lay 153 = .ok (.aload_n 0, 1) := dk_42 (dk_at dksX1_lay_6 9 rfl rfl)
theorem dX1_lay_154 : decode cX1_lay 154 = .ok (.iload 6, 2) := dk_21 6 (dk_at dksX1_lay_6 10 rfl rfl)
theorem dX1_lay_156 : decode cX1_lay 156 = .ok (.ineg, 1) := dk_116 (dk_at dksX1_lay_6 12 rfl rfl)
theorem dX1_lay_157 : decode cX1_lay 157 = .ok (.invokevirtual 198, 3) := dk_182 0 198 (dk_at dksX1_lay_6 13 rfl rfl)
theorem dX1_lay_160 : decode cX1_lay 160 = .ok (.ifCond .eq 7, 3) := dk_153 0 7 (dk_at dksX1_lay_6 16 rfl rfl)
theorem dX1_lay_163 : decode cX1_lay 163 = .ok (.iconst 1, 1) := dk_4 (dk_at dksX1_lay_6 19 rfl rfl)
theorem dX1_lay_164 : decode cX1_lay 164 = .ok (.goto 4, 3) := dk_167 0 4 (dk_at dksX1_lay_6 20 rfl rfl)
theorem dX1_lay_167 : decode cX1_lay 167 = .ok (.iconst 0, 1) := dk_3 (dk_at dksX1_lay_6 23 rfl rfl)
theorem dX1_lay_168 : decode cX1_lay 168 = .ok (.iadd, 1) := dk_96 (dk_at dksX1_lay_7 0 rfl rfl)
theorem dX1_lay_169 : decode cX1_lay 169 = .ok (.iastore, 1) := dk_79 (dk_at dksX1_lay_7 1 rfl rfl)
theorem dX1_lay_170 : decode cX1_lay 170 = .ok (.iinc 5 1, 3) := dk_132 5 1 (dk_at dksX1_lay_7 2 rfl rfl)
theorem dX1_lay_173 : decode cX1_lay 173 = .ok (.goto (-129), 3) := dk_167 255 127 (dk_at dksX1_lay_7 5 rfl rfl)
theorem dX1_lay_176 : decode cX1_lay 176 = .ok (.aload_n 0, 1) := dk_42 (dk_at dksX1_lay_7 8 rfl rfl)
theorem dX1_lay_177 : decode cX1_lay 177 = .ok (.iload_n 1, 1) := dk_27 (dk_at dksX1_lay_7 9 rfl rfl)
theorem dX1_lay_178 : decode cX1_lay 178 = .ok (.invokevirtual 202, 3) := dk_182 0 202 (dk_at dksX1_lay_7 10 rfl rfl)
theorem dX1_lay_181 : decode cX1_lay 181 = .ok (.return_, 1) := dk_177 (dk_at dksX1_lay_7 13 rfl rfl)
abbrev cX1_index : ByteArray := prog_5_method_2_code
def yX1_index : MethodName := ⟨RX1, "index", "(I)I"⟩
def dkwX1_index_0 : List UInt8 := [27, 158, 0, 9, 5, 27, 104, 167, 0, 8, 4, 5, 27, 104, 100, 172]
abbrev dktX1_index_0 : List UInt8 := dkwX1_index_0 ++ []
theorem dksX1_index_0 : cX1_index.data.toList.drop 0 = dktX1_index_0 := by decide +kernel
theorem dX1_index_0 : decode cX1_index 0 = .ok (.iload_n 1, 1) := dk_27 (dk_at dksX1_index_0 0 rfl rfl)
theorem dX1_index_1 : decode cX1_index 1 = .ok (.ifCond .le 9, 3) := dk_158 0 9 (dk_at dksX1_index_0 1 rfl rfl)
theorem dX1_index_4 : decode cX1_index 4 = .ok (.iconst 2, 1) := dk_5 (dk_at dksX1_index_0 4 rfl rfl)
theorem dX1_index_5 : decode cX1_index 5 = .ok (.iload_n 1, 1) := dk_27 (dk_at dksX1_index_0 5 rfl rfl)
theorem dX1_index_6 : decode cX1_index 6 = .ok (.imul, 1) := dk_104 (dk_at dksX1_index_0 6 rfl rfl)
theorem dX1_index_7 : decode cX1_index 7 = .ok (.goto 8, 3) := dk_167 0 8 (dk_at dksX1_index_0 7 rfl rfl)
theorem dX1_index_10 : decode cX1_index 10 = .ok (.iconst 1, 1) := dk_4 (dk_at dksX1_index_0 10 rfl rfl)
theorem dX1_index_11 : decode cX1_index 11 = .ok (.iconst 2, 1) := dk_5 (dk_at dksX1_index_0 11 rfl rfl)
theorem dX1_index_12 : decode cX1_index 12 = .ok (.iload_n 1, 1) := dk_27 (dk_at dksX1_index_0 12 rfl rfl)
theorem dX1_index_13 : decode cX1_index 13 = .ok (.imul, 1) := dk_104 (dk_at dksX1_index_0 13 rfl rfl)
theorem dX1_index_14 : decode cX1_index 14 = .ok (.isub, 1) := dk_100 (dk_at dksX1_index_0 14 rfl rfl)
theorem dX1_index_15 : decode cX1_index 15 = .ok (.ireturn, 1) := dk_172 (dk_at dksX1_index_0 15 rfl rfl)
abbrev cX1_isTrue : ByteArray := prog_5_method_6_code
def yX1_isTrue : MethodName := ⟨RX1, "isTrue", "(I)Z"⟩
def dkwX1_isTrue_1 : List UInt8 := [167, 0, 4, 3, 172]
abbrev dktX1_isTrue_1 : List UInt8 := dkwX1_isTrue_1 ++ []
def dkwX1_isTrue_0 : List UInt8 := [42, 180, 0, 48, 27, 184, 0, 219, 46, 27, 158, 0, 7, 4, 167, 0, 4, 2, 160, 0, 7, 4]
abbrev dktX1_isTrue_0 : List UInt8 := dkwX1_isTrue_0 ++ dktX1_isTrue_1
theorem dksX1_isTrue_0 : cX1_isTrue.data.toList.drop 0 = dktX1_isTrue_0 := by decide +kernel
theorem dksX1_isTrue_1 : cX1_isTrue.data.toList.drop 22 = dktX1_isTrue_1 := dk_seg dksX1_isTrue_0 22 rfl rfl
theorem dX1_isTrue_0 : decode cX1_isTrue 0 = .ok (.aload_n 0, 1) := dk_42 (dk_at dksX1_isTrue_0 0 rfl rfl)
theorem dX1_isTrue_1 : decode cX1_isTrue 1 = .ok (.getfield 48, 3) := dk_180 0 48 (dk_at dksX1_isTrue_0 1 rfl rfl)
theorem dX1_isTrue_4 : decode cX1_isTrue 4 = .ok (.iload_n 1, 1) := dk_27 (dk_at dksX1_isTrue_0 4 rfl rfl)
theorem dX1_isTrue_5 : decode cX1_isTrue 5 = .ok (.invokestatic 219, 3) := dk_184 0 219 (dk_at dksX1_isTrue_0 5 rfl rfl)
theorem dX1_isTrue_8 : decode cX1_isTrue 8 = .ok (.iaload, 1) := dk_46 (dk_at dksX1_isTrue_0 8 rfl rfl)
theorem dX1_isTrue_9 : decode cX1_isTrue 9 = .ok (.iload_n 1, 1) := dk_27 (dk_at dksX1_isTrue_0 9 rfl rfl)
theorem dX1_isTrue_10 : decode cX1_isTrue 10 = .ok (.ifCond .le 7, 3) := dk_158 0 7 (dk_at dksX1_isTrue_0 10 rfl rfl)
theorem dX1_isTrue_13 : decode cX1_isTrue 13 = .ok (.iconst 1, 1) := dk_4 (dk_at dksX1_isTrue_0 13 rfl rfl)
theorem dX1_isTrue_14 : decode cX1_isTrue 14 = .ok (.goto 4, 3) := dk_167 0 4 (dk_at dksX1_isTrue_0 14 rfl rfl)
theorem dX1_isTrue_17 : decode cX1_isTrue 17 = .ok (.iconst (-1), 1) := dk_2 (dk_at dksX1_isTrue_0 17 rfl rfl)
theorem dX1_isTrue_18 : decode cX1_isTrue 18 = .ok (.if_icmp .ne 7, 3) := dk_160 0 7 (dk_at dksX1_isTrue_0 18 rfl rfl)
theorem dX1_isTrue_21 : decode cX1_isTrue 21 = .ok (.iconst 1, 1) := dk_4 (dk_at dksX1_isTrue_0 21 rfl rfl)
theorem dX1_isTrue_22 : decode cX1_isTrue 22 = .ok (.goto 4, 3) := dk_167 0 4 (dk_at dksX1_isTrue_1 0 rfl rfl)
theorem dX1_isTrue_25 : decode cX1_isTrue 25 = .ok (.iconst 0, 1) := dk_3 (dk_at dksX1_isTrue_1 3 rfl rfl)
theorem dX1_isTrue_26 : decode cX1_isTrue 26 = .ok (.ireturn, 1) := dk_172 (dk_at dksX1_isTrue_1 4 rfl rfl)
abbrev cX1_look : ByteArray := prog_5_method_8_code
def yX1_look : MethodName := ⟨RX1, "look", "(I)V"⟩
def dkwX1_look_3 : List UInt8 := [167, 0, 18, 42, 180, 0, 32, 27, 16, 6, 122, 47, 33, 20, 0, 224, 131, 127, 80, 177]
abbrev dktX1_look_3 : List UInt8 := dkwX1_look_3 ++ []
def dkwX1_look_2 : List UInt8 := [42, 180, 0, 32, 27, 16, 6, 122, 28, 153, 0, 17, 42, 180, 0, 32, 27, 16, 6, 122, 47, 33, 129]
abbrev dktX1_look_2 : List UInt8 := dkwX1_look_2 ++ dktX1_look_3
def dkwX1_look_1 : List UInt8 := [42, 180, 0, 19, 27, 46, 4, 100, 161, 0, 7, 4, 167, 0, 4, 3, 61, 10, 27, 16, 63, 126, 121, 66]
abbrev dktX1_look_1 : List UInt8 := dkwX1_look_1 ++ dktX1_look_2
def dkwX1_look_0 : List UInt8 := [42, 180, 0, 28, 27, 51, 153, 0, 33, 42, 180, 0, 25, 27, 46, 154, 0, 24, 42, 180, 0, 22, 27, 46]
abbrev dktX1_look_0 : List UInt8 := dkwX1_look_0 ++ dktX1_look_1
theorem dksX1_look_0 : cX1_look.data.toList.drop 0 = dktX1_look_0 := by decide +kernel
theorem dksX1_look_1 : cX1_look.data.toList.drop 24 = dktX1_look_1 := dk_seg dksX1_look_0 24 rfl rfl
theorem dksX1_look_2 : cX1_look.data.toList.drop 48 = dktX1_look_2 := dk_seg dksX1_look_1 24 rfl rfl
theorem dksX1_look_3 : cX1_look.data.toList.drop 71 = dktX1_look_3 := dk_seg dksX1_look_2 23 rfl rfl
theorem dX1_look_0 : decode cX1_look 0 = .ok (.aload_n 0, 1) := dk_42 (dk_at dksX1_look_0 0 rfl rfl)
theorem dX1_look_1 : decode cX1_look 1 = .ok (.getfield 28, 3) := dk_180 0 28 (dk_at dksX1_look_0 1 rfl rfl)
theorem dX1_look_4 : decode cX1_look 4 = .ok (.iload_n 1, 1) := dk_27 (dk_at dksX1_look_0 4 rfl rfl)
theorem dX1_look_5 : decode cX1_look 5 = .ok (.baload, 1) := dk_51 (dk_at dksX1_look_0 5 rfl rfl)
theorem dX1_look_6 : decode cX1_look 6 = .ok (.ifCond .eq 33, 3) := dk_153 0 33 (dk_at dksX1_look_0 6 rfl rfl)
theorem dX1_look_9 : decode cX1_look 9 = .ok (.aload_n 0, 1) := dk_42 (dk_at dksX1_look_0 9 rfl rfl)
theorem dX1_look_10 : decode cX1_look 10 = .ok (.getfield 25, 3) := dk_180 0 25 (dk_at dksX1_look_0 10 rfl rfl)
theorem dX1_look_13 : decode cX1_look 13 = .ok (.iload_n 1, 1) := dk_27 (dk_at dksX1_look_0 13 rfl rfl)
theorem dX1_look_14 : decode cX1_look 14 = .ok (.iaload, 1) := dk_46 (dk_at dksX1_look_0 14 rfl rfl)
theorem dX1_look_15 : decode cX1_look 15 = .ok (.ifCond .ne 24, 3) := dk_154 0 24 (dk_at dksX1_look_0 15 rfl rfl)
theorem dX1_look_18 : decode cX1_look 18 = .ok (.aload_n 0, 1) := dk_42 (dk_at dksX1_look_0 18 rfl rfl)
theorem dX1_look_19 : decode cX1_look 19 = .ok (.getfield 22, 3) := dk_180 0 22 (dk_at dksX1_look_0 19 rfl rfl)
theorem dX1_look_22 : decode cX1_look 22 = .ok (.iload_n 1, 1) := dk_27 (dk_at dksX1_look_0 22 rfl rfl)
theorem dX1_look_23 : decode cX1_look 23 = .ok (.iaload, 1) := dk_46 (dk_at dksX1_look_0 23 rfl rfl)
theorem dX1_look_24 : decode cX1_look 24 = .ok (.aload_n 0, 1) := dk_42 (dk_at dksX1_look_1 0 rfl rfl)
theorem dX1_look_25 : decode cX1_look 25 = .ok (.getfield 19, 3) := dk_180 0 19 (dk_at dksX1_look_1 1 rfl rfl)
theorem dX1_look_28 : decode cX1_look 28 = .ok (.iload_n 1, 1) := dk_27 (dk_at dksX1_look_1 4 rfl rfl)
theorem dX1_look_29 : decode cX1_look 29 = .ok (.iaload, 1) := dk_46 (dk_at dksX1_look_1 5 rfl rfl)
theorem dX1_look_30 : decode cX1_look 30 = .ok (.iconst 1, 1) := dk_4 (dk_at dksX1_look_1 6 rfl rfl)
theorem dX1_look_31 : decode cX1_look 31 = .ok (.isub, 1) := dk_100 (dk_at dksX1_look_1 7 rfl rfl)
theorem dX1_look_32 : decode cX1_look 32 = .ok (.if_icmp .lt 7, 3) := dk_161 0 7 (dk_at dksX1_look_1 8 rfl rfl)
theorem dX1_look_35 : decode cX1_look 35 = .ok (.iconst 1, 1) := dk_4 (dk_at dksX1_look_1 11 rfl rfl)
theorem dX1_look_36 : decode cX1_look 36 = .ok (.goto 4, 3) := dk_167 0 4 (dk_at dksX1_look_1 12 rfl rfl)
theorem dX1_look_39 : decode cX1_look 39 = .ok (.iconst 0, 1) := dk_3 (dk_at dksX1_look_1 15 rfl rfl)
theorem dX1_look_40 : decode cX1_look 40 = .ok (.istore_n 2, 1) := dk_61 (dk_at dksX1_look_1 16 rfl rfl)
theorem dX1_look_41 : decode cX1_look 41 = .ok (.lconst 1, 1) := dk_10 (dk_at dksX1_look_1 17 rfl rfl)
theorem dX1_look_42 : decode cX1_look 42 = .ok (.iload_n 1, 1) := dk_27 (dk_at dksX1_look_1 18 rfl rfl)
theorem dX1_look_43 : decode cX1_look 43 = .ok (.bipush 63, 2) := dk_16 63 (dk_at dksX1_look_1 19 rfl rfl)
theorem dX1_look_45 : decode cX1_look 45 = .ok (.iand, 1) := dk_126 (dk_at dksX1_look_1 21 rfl rfl)
theorem dX1_look_46 : decode cX1_look 46 = .ok (.lshl, 1) := dk_121 (dk_at dksX1_look_1 22 rfl rfl)
theorem dX1_look_47 : decode cX1_look 47 = .ok (.lstore_n 3, 1) := dk_66 (dk_at dksX1_look_1 23 rfl rfl)
theorem dX1_look_48 : decode cX1_look 48 = .ok (.aload_n 0, 1) := dk_42 (dk_at dksX1_look_2 0 rfl rfl)
theorem dX1_look_49 : decode cX1_look 49 = .ok (.getfield 32, 3) := dk_180 0 32 (dk_at dksX1_look_2 1 rfl rfl)
theorem dX1_look_52 : decode cX1_look 52 = .ok (.iload_n 1, 1) := dk_27 (dk_at dksX1_look_2 4 rfl rfl)
theorem dX1_look_53 : decode cX1_look 53 = .ok (.bipush 6, 2) := dk_16 6 (dk_at dksX1_look_2 5 rfl rfl)
theorem dX1_look_55 : decode cX1_look 55 = .ok (.ishr, 1) := dk_122 (dk_at dksX1_look_2 7 rfl rfl)
theorem dX1_look_56 : decode cX1_look 56 = .ok (.iload_n 2, 1) := dk_28 (dk_at dksX1_look_2 8 rfl rfl)
theorem dX1_look_57 : decode cX1_look 57 = .ok (.ifCond .eq 17, 3) := dk_153 0 17 (dk_at dksX1_look_2 9 rfl rfl)
theorem dX1_look_60 : decode cX1_look 60 = .ok (.aload_n 0, 1) := dk_42 (dk_at dksX1_look_2 12 rfl rfl)
theorem dX1_look_61 : decode cX1_look 61 = .ok (.getfield 32, 3) := dk_180 0 32 (dk_at dksX1_look_2 13 rfl rfl)
theorem dX1_look_64 : decode cX1_look 64 = .ok (.iload_n 1, 1) := dk_27 (dk_at dksX1_look_2 16 rfl rfl)
theorem dX1_look_65 : decode cX1_look 65 = .ok (.bipush 6, 2) := dk_16 6 (dk_at dksX1_look_2 17 rfl rfl)
theorem dX1_look_67 : decode cX1_look 67 = .ok (.ishr, 1) := dk_122 (dk_at dksX1_look_2 19 rfl rfl)
theorem dX1_look_68 : decode cX1_look 68 = .ok (.laload, 1) := dk_47 (dk_at dksX1_look_2 20 rfl rfl)
theorem dX1_look_69 : decode cX1_look 69 = .ok (.lload_n 3, 1) := dk_33 (dk_at dksX1_look_2 21 rfl rfl)
theorem dX1_look_70 : decode cX1_look 70 = .ok (.lor, 1) := dk_129 (dk_at dksX1_look_2 22 rfl rfl)
theorem dX1_look_71 : decode cX1_look 71 = .ok (.goto 18, 3) := dk_167 0 18 (dk_at dksX1_look_3 0 rfl rfl)
theorem dX1_look_74 : decode cX1_look 74 = .ok (.aload_n 0, 1) := dk_42 (dk_at dksX1_look_3 3 rfl rfl)
theorem dX1_look_75 : decode cX1_look 75 = .ok (.getfield 32, 3) := dk_180 0 32 (dk_at dksX1_look_3 4 rfl rfl)
theorem dX1_look_78 : decode cX1_look 78 = .ok (.iload_n 1, 1) := dk_27 (dk_at dksX1_look_3 7 rfl rfl)
theorem dX1_look_79 : decode cX1_look 79 = .ok (.bipush 6, 2) := dk_16 6 (dk_at dksX1_look_3 8 rfl rfl)
theorem dX1_look_81 : decode cX1_look 81 = .ok (.ishr, 1) := dk_122 (dk_at dksX1_look_3 10 rfl rfl)
theorem dX1_look_82 : decode cX1_look 82 = .ok (.laload, 1) := dk_47 (dk_at dksX1_look_3 11 rfl rfl)
theorem dX1_look_83 : decode cX1_look 83 = .ok (.lload_n 3, 1) := dk_33 (dk_at dksX1_look_3 12 rfl rfl)
theorem dX1_look_84 : decode cX1_look 84 = .ok (.ldc2_w 224, 3) := dk_20 0 224 (dk_at dksX1_look_3 13 rfl rfl)
theorem dX1_look_87 : decode cX1_look 87 = .ok (.lxor, 1) := dk_131 (dk_at dksX1_look_3 16 rfl rfl)
theorem dX1_look_88 : decode cX1_look 88 = .ok (.land, 1) := dk_127 (dk_at dksX1_look_3 17 rfl rfl)
theorem dX1_look_89 : decode cX1_look 89 = .ok (.lastore, 1) := dk_80 (dk_at dksX1_look_3 18 rfl rfl)
theorem dX1_look_90 : decode cX1_look 90 = .ok (.return_, 1) := dk_177 (dk_at dksX1_look_3 19 rfl rfl)
abbrev cX1_search : ByteArray := prog_5_method_38_code
def yX1_search : MethodName := ⟨RX1, "search", "(I)I"⟩
def dkwX1_search_18 : List UInt8 := [42, 3, 181, 0, 139, 25, 7, 191]
abbrev dktX1_search_18 : List UInt8 := dkwX1_search_18 ++ []
def dkwX1_search_17 : List UInt8 := [181, 0, 81, 28, 4, 160, 0, 7, 42, 182, 1, 88, 28, 17, 252, 20, 159, 0, 13, 42, 2, 182, 1, 56]
abbrev dktX1_search_17 : List UInt8 := dkwX1_search_17 ++ dktX1_search_18
def dkwX1_search_16 : List UInt8 := [181, 0, 163, 42, 182, 1, 106, 42, 21, 5, 17, 252, 19, 182, 1, 13, 167, 254, 134, 58, 7, 42, 28]
abbrev dktX1_search_16 : List UInt8 := dkwX1_search_16 ++ dktX1_search_17
def dkwX1_search_15 : List UInt8 := [2, 182, 1, 56, 42, 3, 181, 0, 139, 21, 6, 172, 42, 182, 1, 7, 42, 89, 180, 0, 163, 4, 96]
abbrev dktX1_search_15 : List UInt8 := dkwX1_search_15 ++ dktX1_search_16
def dkwX1_search_14 : List UInt8 := [54, 6, 42, 28, 181, 0, 81, 28, 4, 160, 0, 7, 42, 182, 1, 88, 28, 17, 252, 20, 159, 0, 13, 42]
abbrev dktX1_search_14 : List UInt8 := dkwX1_search_14 ++ dktX1_search_15
def dkwX1_search_13 : List UInt8 := [159, 0, 13, 42, 2, 182, 1, 56, 42, 3, 181, 0, 139, 21, 6, 172, 42, 180, 1, 4, 154, 0, 40, 28]
abbrev dktX1_search_13 : List UInt8 := dkwX1_search_13 ++ dktX1_search_14
def dkwX1_search_12 : List UInt8 := [4, 61, 28, 54, 6, 42, 28, 181, 0, 81, 28, 4, 160, 0, 7, 42, 182, 1, 88, 28, 17, 252, 20]
abbrev dktX1_search_12 : List UInt8 := dkwX1_search_12 ++ dktX1_search_13
def dkwX1_search_11 : List UInt8 := [21, 5, 172, 21, 4, 153, 0, 8, 21, 4, 167, 0, 7, 42, 182, 1, 103, 54, 5, 21, 5, 154, 0, 42]
abbrev dktX1_search_11 : List UInt8 := dkwX1_search_11 ++ dktX1_search_12
def dkwX1_search_10 : List UInt8 := [160, 0, 7, 42, 182, 1, 88, 28, 17, 252, 20, 159, 0, 13, 42, 2, 182, 1, 56, 42, 3, 181, 0, 139]
abbrev dktX1_search_10 : List UInt8 := dkwX1_search_10 ++ dktX1_search_11
def dkwX1_search_9 : List UInt8 := [182, 0, 250, 154, 0, 47, 42, 21, 4, 182, 1, 100, 61, 28, 54, 5, 42, 28, 181, 0, 81, 28, 4]
abbrev dktX1_search_9 : List UInt8 := dkwX1_search_9 ++ dktX1_search_10
def dkwX1_search_8 : List UInt8 := [42, 3, 181, 0, 139, 21, 4, 172, 42, 182, 1, 97, 54, 4, 21, 4, 153, 0, 56, 42, 21, 4]
abbrev dktX1_search_8 : List UInt8 := dkwX1_search_8 ++ dktX1_search_9
def dkwX1_search_7 : List UInt8 := [181, 0, 81, 28, 4, 160, 0, 7, 42, 182, 1, 88, 28, 17, 252, 20, 159, 0, 13, 42, 2, 182, 1, 56]
abbrev dktX1_search_7 : List UInt8 := dkwX1_search_7 ++ dktX1_search_8
def dkwX1_search_6 : List UInt8 := [17, 252, 19, 159, 0, 52, 42, 29, 182, 1, 94, 154, 255, 117, 17, 252, 21, 61, 28, 54, 4, 42, 28]
abbrev dktX1_search_6 : List UInt8 := dkwX1_search_6 ++ dktX1_search_7
def dkwX1_search_5 : List UInt8 := [182, 1, 88, 28, 17, 252, 20, 159, 0, 13, 42, 2, 182, 1, 56, 42, 3, 181, 0, 139, 21, 4, 172, 29]
abbrev dktX1_search_5 : List UInt8 := dkwX1_search_5 ++ dktX1_search_6
def dkwX1_search_4 : List UInt8 := [154, 0, 46, 42, 29, 182, 1, 91, 61, 28, 54, 4, 42, 28, 181, 0, 81, 28, 4, 160, 0, 7, 42]
abbrev dktX1_search_4 : List UInt8 := dkwX1_search_4 ++ dktX1_search_5
def dkwX1_search_3 : List UInt8 := [182, 1, 56, 42, 3, 181, 0, 139, 21, 4, 172, 29, 17, 252, 19, 159, 0, 53, 42, 180, 0, 139]
abbrev dktX1_search_3 : List UInt8 := dkwX1_search_3 ++ dktX1_search_4
def dkwX1_search_2 : List UInt8 := [28, 181, 0, 81, 28, 4, 160, 0, 7, 42, 182, 1, 88, 28, 17, 252, 20, 159, 0, 13, 42, 2]
abbrev dktX1_search_2 : List UInt8 := dkwX1_search_2 ++ dktX1_search_3
def dkwX1_search_1 : List UInt8 := [17, 252, 19, 159, 0, 54, 42, 180, 0, 139, 158, 0, 47, 42, 180, 1, 4, 154, 0, 40, 28, 54, 4, 42]
abbrev dktX1_search_1 : List UInt8 := dkwX1_search_1 ++ dktX1_search_2
def dkwX1_search_0 : List UInt8 := [42, 27, 181, 1, 4, 17, 252, 20, 61, 42, 182, 1, 85, 62, 29, 17, 252, 20, 159, 0, 24, 29]
abbrev dktX1_search_0 : List UInt8 := dkwX1_search_0 ++ dktX1_search_1
theorem dksX1_search_0 : cX1_search.data.toList.drop 0 = dktX1_search_0 := by decide +kernel
theorem dksX1_search_1 : cX1_search.data.toList.drop 22 = dktX1_search_1 := dk_seg dksX1_search_0 22 rfl rfl
theorem dksX1_search_2 : cX1_search.data.toList.drop 46 = dktX1_search_2 := dk_seg dksX1_search_1 24 rfl rfl
theorem dksX1_search_3 : cX1_search.data.toList.drop 68 = dktX1_search_3 := dk_seg dksX1_search_2 22 rfl rfl
theorem dksX1_search_4 : cX1_search.data.toList.drop 90 = dktX1_search_4 := dk_seg dksX1_search_3 22 rfl rfl
theorem dksX1_search_5 : cX1_search.data.toList.drop 113 = dktX1_search_5 := dk_seg dksX1_search_4 23 rfl rfl
theorem dksX1_search_6 : cX1_search.data.toList.drop 137 = dktX1_search_6 := dk_seg dksX1_search_5 24 rfl rfl
theorem dksX1_search_7 : cX1_search.data.toList.drop 160 = dktX1_search_7 := dk_seg dksX1_search_6 23 rfl rfl
theorem dksX1_search_8 : cX1_search.data.toList.drop 184 = dktX1_search_8 := dk_seg dksX1_search_7 24 rfl rfl
theorem dksX1_search_9 : cX1_search.data.toList.drop 206 = dktX1_search_9 := dk_seg dksX1_search_8 22 rfl rfl
theorem dksX1_search_10 : cX1_search.data.toList.drop 229 = dktX1_search_10 := dk_seg dksX1_search_9 23 rfl rfl
theorem dksX1_search_11 : cX1_search.data.toList.drop 253 = dktX1_search_11 := dk_seg dksX1_search_10 24 rfl rfl
theorem dksX1_search_12 : cX1_search.data.toList.drop 277 = dktX1_search_12 := dk_seg dksX1_search_11 24 rfl rfl
theorem dksX1_search_13 : cX1_search.data.toList.drop 300 = dktX1_search_13 := dk_seg dksX1_search_12 23 rfl rfl
theorem dksX1_search_14 : cX1_search.data.toList.drop 324 = dktX1_search_14 := dk_seg dksX1_search_13 24 rfl rfl
theorem dksX1_search_15 : cX1_search.data.toList.drop 348 = dktX1_search_15 := dk_seg dksX1_search_14 24 rfl rfl
theorem dksX1_search_16 : cX1_search.data.toList.drop 371 = dktX1_search_16 := dk_seg dksX1_search_15 23 rfl rfl
theorem dksX1_search_17 : cX1_search.data.toList.drop 394 = dktX1_search_17 := dk_seg dksX1_search_16 23 rfl rfl
theorem dksX1_search_18 : cX1_search.data.toList.drop 418 = dktX1_search_18 := dk_seg dksX1_search_17 24 rfl rfl
theorem dX1_search_0 : decode cX1_search 0 = .ok (.aload_n 0, 1) := dk_42 (dk_at dksX1_search_0 0 rfl rfl)
theorem dX1_search_1 : decode cX1_search 1 = .ok (.iload_n 1, 1) := dk_27 (dk_at dksX1_search_0 1 rfl rfl)
theorem dX1_search_2 : decode cX1_search 2 = .ok (.putfield 260, 3) := dk_181 1 4 (dk_at dksX1_search_0 2 rfl rfl)
theorem dX1_search_5 : decode cX1_search 5 = .ok (.sipush (-1004), 3) := dk_17 252 20 (dk_at dksX1_search_0 5 rfl rfl)
theorem dX1_search_8 : decode cX1_search 8 = .ok (.istore_n 2, 1) := dk_61 (dk_at dksX1_search_0 8 rfl rfl)
theorem dX1_search_9 : decode cX1_search 9 = .ok (.aload_n 0, 1) := dk_42 (dk_at dksX1_search_0 9 rfl rfl)
theorem dX1_search_10 : decode cX1_search 10 = .ok (.invokevirtual 341, 3) := dk_182 1 85 (dk_at dksX1_search_0 10 rfl rfl)
theorem dX1_search_13 : decode cX1_search 13 = .ok (.istore_n 3, 1) := dk_62 (dk_at dksX1_search_0 13 rfl rfl)
theorem dX1_search_14 : decode cX1_search 14 = .ok (.iload_n 3, 1) := dk_29 (dk_at dksX1_search_0 14 rfl rfl)
theorem dX1_search_15 : decode cX1_search 15 = .ok (.sipush (-1004), 3) := dk_17 252 20 (dk_at dksX1_search_0 15 rfl rfl)
theorem dX1_search_18 : decode cX1_search 18 = .ok (.if_icmp .eq 24, 3) := dk_159 0 24 (dk_at dksX1_search_0 18 rfl rfl)
theorem dX1_search_21 : decode cX1_search 21 = .ok (.iload_n 3, 1) := dk_29 (dk_at dksX1_search_0 21 rfl rfl)
theorem dX1_search_22 : decode cX1_search 22 = .ok (.sipush (-1005), 3) := dk_17 252 19 (dk_at dksX1_search_1 0 rfl rfl)
theorem dX1_search_25 : decode cX1_search 25 = .ok (.if_icmp .eq 54, 3) := dk_159 0 54 (dk_at dksX1_search_1 3 rfl rfl)
theorem dX1_search_28 : decode cX1_search 28 = .ok (.aload_n 0, 1) := dk_42 (dk_at dksX1_search_1 6 rfl rfl)
theorem dX1_search_29 : decode cX1_search 29 = .ok (.getfield 139, 3) := dk_180 0 139 (dk_at dksX1_search_1 7 rfl rfl)
theorem dX1_search_32 : decode cX1_search 32 = .ok (.ifCond .le 47, 3) := dk_158 0 47 (dk_at dksX1_search_1 10 rfl rfl)
theorem dX1_search_35 : decode cX1_search 35 = .ok (.aload_n 0, 1) := dk_42 (dk_at dksX1_search_1 13 rfl rfl)
theorem dX1_search_36 : decode cX1_search 36 = .ok (.getfield 260, 3) := dk_180 1 4 (dk_at dksX1_search_1 14 rfl rfl)
theorem dX1_search_39 : decode cX1_search 39 = .ok (.ifCond .ne 40, 3) := dk_154 0 40 (dk_at dksX1_search_1 17 rfl rfl)
theorem dX1_search_42 : decode cX1_search 42 = .ok (.iload_n 2, 1) := dk_28 (dk_at dksX1_search_1 20 rfl rfl)
theorem dX1_search_43 : decode cX1_search 43 = .ok (.istore 4, 2) := dk_54 4 (dk_at dksX1_search_1 21 rfl rfl)
theorem dX1_search_45 : decode cX1_search 45 = .ok (.aload_n 0, 1) := dk_42 (dk_at dksX1_search_1 23 rfl rfl)
theorem dX1_search_46 : decode cX1_search 46 = .ok (.iload_n 2, 1) := dk_28 (dk_at dksX1_search_2 0 rfl rfl)
theorem dX1_search_47 : decode cX1_search 47 = .ok (.putfield 81, 3) := dk_181 0 81 (dk_at dksX1_search_2 1 rfl rfl)
theorem dX1_search_50 : decode cX1_search 50 = .ok (.iload_n 2, 1) := dk_28 (dk_at dksX1_search_2 4 rfl rfl)
theorem dX1_search_51 : decode cX1_search 51 = .ok (.iconst 1, 1) := dk_4 (dk_at dksX1_search_2 5 rfl rfl)
theorem dX1_search_52 : decode cX1_search 52 = .ok (.if_icmp .ne 7, 3) := dk_160 0 7 (dk_at dksX1_search_2 6 rfl rfl)
theorem dX1_search_55 : decode cX1_search 55 = .ok (.aload_n 0, 1) := dk_42 (dk_at dksX1_search_2 9 rfl rfl)
theorem dX1_search_56 : decode cX1_search 56 = .ok (.invokevirtual 344, 3) := dk_182 1 88 (dk_at dksX1_search_2 10 rfl rfl)
theorem dX1_search_59 : decode cX1_search 59 = .ok (.iload_n 2, 1) := dk_28 (dk_at dksX1_search_2 13 rfl rfl)
theorem dX1_search_60 : decode cX1_search 60 = .ok (.sipush (-1004), 3) := dk_17 252 20 (dk_at dksX1_search_2 14 rfl rfl)
theorem dX1_search_63 : decode cX1_search 63 = .ok (.if_icmp .eq 13, 3) := dk_159 0 13 (dk_at dksX1_search_2 17 rfl rfl)
theorem dX1_search_66 : decode cX1_search 66 = .ok (.aload_n 0, 1) := dk_42 (dk_at dksX1_search_2 20 rfl rfl)
theorem dX1_search_67 : decode cX1_search 67 = .ok (.iconst (-1), 1) := dk_2 (dk_at dksX1_search_2 21 rfl rfl)
theorem dX1_search_68 : decode cX1_search 68 = .ok (.invokevirtual 312, 3) := dk_182 1 56 (dk_at dksX1_search_3 0 rfl rfl)
theorem dX1_search_71 : decode cX1_search 71 = .ok (.aload_n 0, 1) := dk_42 (dk_at dksX1_search_3 3 rfl rfl)
theorem dX1_search_72 : decode cX1_search 72 = .ok (.iconst 0, 1) := dk_3 (dk_at dksX1_search_3 4 rfl rfl)
theorem dX1_search_73 : decode cX1_search 73 = .ok (.putfield 139, 3) := dk_181 0 139 (dk_at dksX1_search_3 5 rfl rfl)
theorem dX1_search_76 : decode cX1_search 76 = .ok (.iload 4, 2) := dk_21 4 (dk_at dksX1_search_3 8 rfl rfl)
theorem dX1_search_78 : decode cX1_search 78 = .ok (.ireturn, 1) := dk_172 (dk_at dksX1_search_3 10 rfl rfl)
theorem dX1_search_79 : decode cX1_search 79 = .ok (.iload_n 3, 1) := dk_29 (dk_at dksX1_search_3 11 rfl rfl)
theorem dX1_search_80 : decode cX1_search 80 = .ok (.sipush (-1005), 3) := dk_17 252 19 (dk_at dksX1_search_3 12 rfl rfl)
theorem dX1_search_83 : decode cX1_search 83 = .ok (.if_icmp .eq 53, 3) := dk_159 0 53 (dk_at dksX1_search_3 15 rfl rfl)
theorem dX1_search_86 : decode cX1_search 86 = .ok (.aload_n 0, 1) := dk_42 (dk_at dksX1_search_3 18 rfl rfl)
theorem dX1_search_87 : decode cX1_search 87 = .ok (.getfield 139, 3) := dk_180 0 139 (dk_at dksX1_search_3 19 rfl rfl)
theorem dX1_search_90 : decode cX1_search 90 = .ok (.ifCond .ne 46, 3) := dk_154 0 46 (dk_at dksX1_search_4 0 rfl rfl)
theorem dX1_search_93 : decode cX1_search 93 = .ok (.aload_n 0, 1) := dk_42 (dk_at dksX1_search_4 3 rfl rfl)
theorem dX1_search_94 : decode cX1_search 94 = .ok (.iload_n 3, 1) := dk_29 (dk_at dksX1_search_4 4 rfl rfl)
theorem dX1_search_95 : decode cX1_search 95 = .ok (.invokevirtual 347, 3) := dk_182 1 91 (dk_at dksX1_search_4 5 rfl rfl)
theorem dX1_search_98 : decode cX1_search 98 = .ok (.istore_n 2, 1) := dk_61 (dk_at dksX1_search_4 8 rfl rfl)
theorem dX1_search_99 : decode cX1_search 99 = .ok (.iload_n 2, 1) := dk_28 (dk_at dksX1_search_4 9 rfl rfl)
theorem dX1_search_100 : decode cX1_search 100 = .ok (.istore 4, 2) := dk_54 4 (dk_at dksX1_search_4 10 rfl rfl)
theorem dX1_search_102 : decode cX1_search 102 = .ok (.aload_n 0, 1) := dk_42 (dk_at dksX1_search_4 12 rfl rfl)
theorem dX1_search_103 : decode cX1_search 103 = .ok (.iload_n 2, 1) := dk_28 (dk_at dksX1_search_4 13 rfl rfl)
theorem dX1_search_104 : decode cX1_search 104 = .ok (.putfield 81, 3) := dk_181 0 81 (dk_at dksX1_search_4 14 rfl rfl)
theorem dX1_search_107 : decode cX1_search 107 = .ok (.iload_n 2, 1) := dk_28 (dk_at dksX1_search_4 17 rfl rfl)
theorem dX1_search_108 : decode cX1_search 108 = .ok (.iconst 1, 1) := dk_4 (dk_at dksX1_search_4 18 rfl rfl)
theorem dX1_search_109 : decode cX1_search 109 = .ok (.if_icmp .ne 7, 3) := dk_160 0 7 (dk_at dksX1_search_4 19 rfl rfl)
theorem dX1_search_112 : decode cX1_search 112 = .ok (.aload_n 0, 1) := dk_42 (dk_at dksX1_search_4 22 rfl rfl)
theorem dX1_search_113 : decode cX1_search 113 = .ok (.invokevirtual 344, 3) := dk_182 1 88 (dk_at dksX1_search_5 0 rfl rfl)
theorem dX1_search_116 : decode cX1_search 116 = .ok (.iload_n 2, 1) := dk_28 (dk_at dksX1_search_5 3 rfl rfl)
theorem dX1_search_117 : decode cX1_search 117 = .ok (.sipush (-1004), 3) := dk_17 252 20 (dk_at dksX1_search_5 4 rfl rfl)
theorem dX1_search_120 : decode cX1_search 120 = .ok (.if_icmp .eq 13, 3) := dk_159 0 13 (dk_at dksX1_search_5 7 rfl rfl)
theorem dX1_search_123 : decode cX1_search 123 = .ok (.aload_n 0, 1) := dk_42 (dk_at dksX1_search_5 10 rfl rfl)
theorem dX1_search_124 : decode cX1_search 124 = .ok (.iconst (-1), 1) := dk_2 (dk_at dksX1_search_5 11 rfl rfl)
theorem dX1_search_125 : decode cX1_search 125 = .ok (.invokevirtual 312, 3) := dk_182 1 56 (dk_at dksX1_search_5 12 rfl rfl)
theorem dX1_search_128 : decode cX1_search 128 = .ok (.aload_n 0, 1) := dk_42 (dk_at dksX1_search_5 15 rfl rfl)
theorem dX1_search_129 : decode cX1_search 129 = .ok (.iconst 0, 1) := dk_3 (dk_at dksX1_search_5 16 rfl rfl)
theorem dX1_search_130 : decode cX1_search 130 = .ok (.putfield 139, 3) := dk_181 0 139 (dk_at dksX1_search_5 17 rfl rfl)
theorem dX1_search_133 : decode cX1_search 133 = .ok (.iload 4, 2) := dk_21 4 (dk_at dksX1_search_5 20 rfl rfl)
theorem dX1_search_135 : decode cX1_search 135 = .ok (.ireturn, 1) := dk_172 (dk_at dksX1_search_5 22 rfl rfl)
theorem dX1_search_136 : decode cX1_search 136 = .ok (.iload_n 3, 1) := dk_29 (dk_at dksX1_search_5 23 rfl rfl)
theorem dX1_search_137 : decode cX1_search 137 = .ok (.sipush (-1005), 3) := dk_17 252 19 (dk_at dksX1_search_6 0 rfl rfl)
theorem dX1_search_140 : decode cX1_search 140 = .ok (.if_icmp .eq 52, 3) := dk_159 0 52 (dk_at dksX1_search_6 3 rfl rfl)
theorem dX1_search_143 : decode cX1_search 143 = .ok (.aload_n 0, 1) := dk_42 (dk_at dksX1_search_6 6 rfl rfl)
theorem dX1_search_144 : decode cX1_search 144 = .ok (.iload_n 3, 1) := dk_29 (dk_at dksX1_search_6 7 rfl rfl)
theorem dX1_search_145 : decode cX1_search 145 = .ok (.invokevirtual 350, 3) := dk_182 1 94 (dk_at dksX1_search_6 8 rfl rfl)
theorem dX1_search_148 : decode cX1_search 148 = .ok (.ifCond .ne (-139), 3) := dk_154 255 117 (dk_at dksX1_search_6 11 rfl rfl)
theorem dX1_search_151 : decode cX1_search 151 = .ok (.sipush (-1003), 3) := dk_17 252 21 (dk_at dksX1_search_6 14 rfl rfl)
theorem dX1_search_154 : decode cX1_search 154 = .ok (.istore_n 2, 1) := dk_61 (dk_at dksX1_search_6 17 rfl rfl)
theorem dX1_search_155 : decode cX1_search 155 = .ok (.iload_n 2, 1) := dk_28 (dk_at dksX1_search_6 18 rfl rfl)
theorem dX1_search_156 : decode cX1_search 156 = .ok (.istore 4, 2) := dk_54 4 (dk_at dksX1_search_6 19 rfl rfl)
theorem dX1_search_158 : decode cX1_search 158 = .ok (.aload_n 0, 1) := dk_42 (dk_at dksX1_search_6 21 rfl rfl)
theorem dX1_search_159 : decode cX1_search 159 = .ok (.iload_n 2, 1) := dk_28 (dk_at dksX1_search_6 22 rfl rfl)
theorem dX1_search_160 : decode cX1_search 160 = .ok (.putfield 81, 3) := dk_181 0 81 (dk_at dksX1_search_7 0 rfl rfl)
theorem dX1_search_163 : decode cX1_search 163 = .ok (.iload_n 2, 1) := dk_28 (dk_at dksX1_search_7 3 rfl rfl)
theorem dX1_search_164 : decode cX1_search 164 = .ok (.iconst 1, 1) := dk_4 (dk_at dksX1_search_7 4 rfl rfl)
theorem dX1_search_165 : decode cX1_search 165 = .ok (.if_icmp .ne 7, 3) := dk_160 0 7 (dk_at dksX1_search_7 5 rfl rfl)
theorem dX1_search_168 : decode cX1_search 168 = .ok (.aload_n 0, 1) := dk_42 (dk_at dksX1_search_7 8 rfl rfl)
theorem dX1_search_169 : decode cX1_search 169 = .ok (.invokevirtual 344, 3) := dk_182 1 88 (dk_at dksX1_search_7 9 rfl rfl)
theorem dX1_search_172 : decode cX1_search 172 = .ok (.iload_n 2, 1) := dk_28 (dk_at dksX1_search_7 12 rfl rfl)
theorem dX1_search_173 : decode cX1_search 173 = .ok (.sipush (-1004), 3) := dk_17 252 20 (dk_at dksX1_search_7 13 rfl rfl)
theorem dX1_search_176 : decode cX1_search 176 = .ok (.if_icmp .eq 13, 3) := dk_159 0 13 (dk_at dksX1_search_7 16 rfl rfl)
theorem dX1_search_179 : decode cX1_search 179 = .ok (.aload_n 0, 1) := dk_42 (dk_at dksX1_search_7 19 rfl rfl)
theorem dX1_search_180 : decode cX1_search 180 = .ok (.iconst (-1), 1) := dk_2 (dk_at dksX1_search_7 20 rfl rfl)
theorem dX1_search_181 : decode cX1_search 181 = .ok (.invokevirtual 312, 3) := dk_182 1 56 (dk_at dksX1_search_7 21 rfl rfl)
theorem dX1_search_184 : decode cX1_search 184 = .ok (.aload_n 0, 1) := dk_42 (dk_at dksX1_search_8 0 rfl rfl)
theorem dX1_search_185 : decode cX1_search 185 = .ok (.iconst 0, 1) := dk_3 (dk_at dksX1_search_8 1 rfl rfl)
theorem dX1_search_186 : decode cX1_search 186 = .ok (.putfield 139, 3) := dk_181 0 139 (dk_at dksX1_search_8 2 rfl rfl)
theorem dX1_search_189 : decode cX1_search 189 = .ok (.iload 4, 2) := dk_21 4 (dk_at dksX1_search_8 5 rfl rfl)
theorem dX1_search_191 : decode cX1_search 191 = .ok (.ireturn, 1) := dk_172 (dk_at dksX1_search_8 7 rfl rfl)
theorem dX1_search_192 : decode cX1_search 192 = .ok (.aload_n 0, 1) := dk_42 (dk_at dksX1_search_8 8 rfl rfl)
theorem dX1_search_193 : decode cX1_search 193 = .ok (.invokevirtual 353, 3) := dk_182 1 97 (dk_at dksX1_search_8 9 rfl rfl)
theorem dX1_search_196 : decode cX1_search 196 = .ok (.istore 4, 2) := dk_54 4 (dk_at dksX1_search_8 12 rfl rfl)
theorem dX1_search_198 : decode cX1_search 198 = .ok (.iload 4, 2) := dk_21 4 (dk_at dksX1_search_8 14 rfl rfl)
theorem dX1_search_200 : decode cX1_search 200 = .ok (.ifCond .eq 56, 3) := dk_153 0 56 (dk_at dksX1_search_8 16 rfl rfl)
theorem dX1_search_203 : decode cX1_search 203 = .ok (.aload_n 0, 1) := dk_42 (dk_at dksX1_search_8 19 rfl rfl)
theorem dX1_search_204 : decode cX1_search 204 = .ok (.iload 4, 2) := dk_21 4 (dk_at dksX1_search_8 20 rfl rfl)
theorem dX1_search_206 : decode cX1_search 206 = .ok (.invokevirtual 250, 3) := dk_182 0 250 (dk_at dksX1_search_9 0 rfl rfl)
theorem dX1_search_209 : decode cX1_search 209 = .ok (.ifCond .ne 47, 3) := dk_154 0 47 (dk_at dksX1_search_9 3 rfl rfl)
theorem dX1_search_212 : decode cX1_search 212 = .ok (.aload_n 0, 1) := dk_42 (dk_at dksX1_search_9 6 rfl rfl)
theorem dX1_search_213 : decode cX1_search 213 = .ok (.iload 4, 2) := dk_21 4 (dk_at dksX1_search_9 7 rfl rfl)
theorem dX1_search_215 : decode cX1_search 215 = .ok (.invokevirtual 356, 3) := dk_182 1 100 (dk_at dksX1_search_9 9 rfl rfl)
theorem dX1_search_218 : decode cX1_search 218 = .ok (.istore_n 2, 1) := dk_61 (dk_at dksX1_search_9 12 rfl rfl)
theorem dX1_search_219 : decode cX1_search 219 = .ok (.iload_n 2, 1) := dk_28 (dk_at dksX1_search_9 13 rfl rfl)
theorem dX1_search_220 : decode cX1_search 220 = .ok (.istore 5, 2) := dk_54 5 (dk_at dksX1_search_9 14 rfl rfl)
theorem dX1_search_222 : decode cX1_search 222 = .ok (.aload_n 0, 1) := dk_42 (dk_at dksX1_search_9 16 rfl rfl)
theorem dX1_search_223 : decode cX1_search 223 = .ok (.iload_n 2, 1) := dk_28 (dk_at dksX1_search_9 17 rfl rfl)
theorem dX1_search_224 : decode cX1_search 224 = .ok (.putfield 81, 3) := dk_181 0 81 (dk_at dksX1_search_9 18 rfl rfl)
theorem dX1_search_227 : decode cX1_search 227 = .ok (.iload_n 2, 1) := dk_28 (dk_at dksX1_search_9 21 rfl rfl)
theorem dX1_search_228 : decode cX1_search 228 = .ok (.iconst 1, 1) := dk_4 (dk_at dksX1_search_9 22 rfl rfl)
theorem dX1_search_229 : decode cX1_search 229 = .ok (.if_icmp .ne 7, 3) := dk_160 0 7 (dk_at dksX1_search_10 0 rfl rfl)
theorem dX1_search_232 : decode cX1_search 232 = .ok (.aload_n 0, 1) := dk_42 (dk_at dksX1_search_10 3 rfl rfl)
theorem dX1_search_233 : decode cX1_search 233 = .ok (.invokevirtual 344, 3) := dk_182 1 88 (dk_at dksX1_search_10 4 rfl rfl)
theorem dX1_search_236 : decode cX1_search 236 = .ok (.iload_n 2, 1) := dk_28 (dk_at dksX1_search_10 7 rfl rfl)
theorem dX1_search_237 : decode cX1_search 237 = .ok (.sipush (-1004), 3) := dk_17 252 20 (dk_at dksX1_search_10 8 rfl rfl)
theorem dX1_search_240 : decode cX1_search 240 = .ok (.if_icmp .eq 13, 3) := dk_159 0 13 (dk_at dksX1_search_10 11 rfl rfl)
theorem dX1_search_243 : decode cX1_search 243 = .ok (.aload_n 0, 1) := dk_42 (dk_at dksX1_search_10 14 rfl rfl)
theorem dX1_search_244 : decode cX1_search 244 = .ok (.iconst (-1), 1) := dk_2 (dk_at dksX1_search_10 15 rfl rfl)
theorem dX1_search_245 : decode cX1_search 245 = .ok (.invokevirtual 312, 3) := dk_182 1 56 (dk_at dksX1_search_10 16 rfl rfl)
theorem dX1_search_248 : decode cX1_search 248 = .ok (.aload_n 0, 1) := dk_42 (dk_at dksX1_search_10 19 rfl rfl)
theorem dX1_search_249 : decode cX1_search 249 = .ok (.iconst 0, 1) := dk_3 (dk_at dksX1_search_10 20 rfl rfl)
theorem dX1_search_250 : decode cX1_search 250 = .ok (.putfield 139, 3) := dk_181 0 139 (dk_at dksX1_search_10 21 rfl rfl)
theorem dX1_search_253 : decode cX1_search 253 = .ok (.iload 5, 2) := dk_21 5 (dk_at dksX1_search_11 0 rfl rfl)
theorem dX1_search_255 : decode cX1_search 255 = .ok (.ireturn, 1) := dk_172 (dk_at dksX1_search_11 2 rfl rfl)
theorem dX1_search_256 : decode cX1_search 256 = .ok (.iload 4, 2) := dk_21 4 (dk_at dksX1_search_11 3 rfl rfl)
theorem dX1_search_258 : decode cX1_search 258 = .ok (.ifCond .eq 8, 3) := dk_153 0 8 (dk_at dksX1_search_11 5 rfl rfl)
theorem dX1_search_261 : decode cX1_search 261 = .ok (.iload 4, 2) := dk_21 4 (dk_at dksX1_search_11 8 rfl rfl)
theorem dX1_search_263 : decode cX1_search 263 = .ok (.goto 7, 3) := dk_167 0 7 (dk_at dksX1_search_11 10 rfl rfl)
theorem dX1_search_266 : decode cX1_search 266 = .ok (.aload_n 0, 1) := dk_42 (dk_at dksX1_search_11 13 rfl rfl)
theorem dX1_search_267 : decode cX1_search 267 = .ok (.invokevirtual 359, 3) := dk_182 1 103 (dk_at dksX1_search_11 14 rfl rfl)
theorem dX1_search_270 : decode cX1_search 270 = .ok (.istore 5, 2) := dk_54 5 (dk_at dksX1_search_11 17 rfl rfl)
theorem dX1_search_272 : decode cX1_search 272 = .ok (.iload 5, 2) := dk_21 5 (dk_at dksX1_search_11 19 rfl rfl)
theorem dX1_search_274 : decode cX1_search 274 = .ok (.ifCond .ne 42, 3) := dk_154 0 42 (dk_at dksX1_search_11 21 rfl rfl)
theorem dX1_search_277 : decode cX1_search 277 = .ok (.iconst 1, 1) := dk_4 (dk_at dksX1_search_12 0 rfl rfl)
theorem dX1_search_278 : decode cX1_search 278 = .ok (.istore_n 2, 1) := dk_61 (dk_at dksX1_search_12 1 rfl rfl)
theorem dX1_search_279 : decode cX1_search 279 = .ok (.iload_n 2, 1) := dk_28 (dk_at dksX1_search_12 2 rfl rfl)
theorem dX1_search_280 : decode cX1_search 280 = .ok (.istore 6, 2) := dk_54 6 (dk_at dksX1_search_12 3 rfl rfl)
theorem dX1_search_282 : decode cX1_search 282 = .ok (.aload_n 0, 1) := dk_42 (dk_at dksX1_search_12 5 rfl rfl)
theorem dX1_search_283 : decode cX1_search 283 = .ok (.iload_n 2, 1) := dk_28 (dk_at dksX1_search_12 6 rfl rfl)
theorem dX1_search_284 : decode cX1_search 284 = .ok (.putfield 81, 3) := dk_181 0 81 (dk_at dksX1_search_12 7 rfl rfl)
theorem dX1_search_287 : decode cX1_search 287 = .ok (.iload_n 2, 1) := dk_28 (dk_at dksX1_search_12 10 rfl rfl)
theorem dX1_search_288 : decode cX1_search 288 = .ok (.iconst 1, 1) := dk_4 (dk_at dksX1_search_12 11 rfl rfl)
theorem dX1_search_289 : decode cX1_search 289 = .ok (.if_icmp .ne 7, 3) := dk_160 0 7 (dk_at dksX1_search_12 12 rfl rfl)
theorem dX1_search_292 : decode cX1_search 292 = .ok (.aload_n 0, 1) := dk_42 (dk_at dksX1_search_12 15 rfl rfl)
theorem dX1_search_293 : decode cX1_search 293 = .ok (.invokevirtual 344, 3) := dk_182 1 88 (dk_at dksX1_search_12 16 rfl rfl)
theorem dX1_search_296 : decode cX1_search 296 = .ok (.iload_n 2, 1) := dk_28 (dk_at dksX1_search_12 19 rfl rfl)
theorem dX1_search_297 : decode cX1_search 297 = .ok (.sipush (-1004), 3) := dk_17 252 20 (dk_at dksX1_search_12 20 rfl rfl)
theorem dX1_search_300 : decode cX1_search 300 = .ok (.if_icmp .eq 13, 3) := dk_159 0 13 (dk_at dksX1_search_13 0 rfl rfl)
theorem dX1_search_303 : decode cX1_search 303 = .ok (.aload_n 0, 1) := dk_42 (dk_at dksX1_search_13 3 rfl rfl)
theorem dX1_search_304 : decode cX1_search 304 = .ok (.iconst (-1), 1) := dk_2 (dk_at dksX1_search_13 4 rfl rfl)
theorem dX1_search_305 : decode cX1_search 305 = .ok (.invokevirtual 312, 3) := dk_182 1 56 (dk_at dksX1_search_13 5 rfl rfl)
theorem dX1_search_308 : decode cX1_search 308 = .ok (.aload_n 0, 1) := dk_42 (dk_at dksX1_search_13 8 rfl rfl)
theorem dX1_search_309 : decode cX1_search 309 = .ok (.iconst 0, 1) := dk_3 (dk_at dksX1_search_13 9 rfl rfl)
theorem dX1_search_310 : decode cX1_search 310 = .ok (.putfield 139, 3) := dk_181 0 139 (dk_at dksX1_search_13 10 rfl rfl)
theorem dX1_search_313 : decode cX1_search 313 = .ok (.iload 6, 2) := dk_21 6 (dk_at dksX1_search_13 13 rfl rfl)
theorem dX1_search_315 : decode cX1_search 315 = .ok (.ireturn, 1) := dk_172 (dk_at dksX1_search_13 15 rfl rfl)
theorem dX1_search_316 : decode cX1_search 316 = .ok (.aload_n 0, 1) := dk_42 (dk_at dksX1_search_13 16 rfl rfl)
theorem dX1_search_317 : decode cX1_search 317 = .ok (.getfield 260, 3) := dk_180 1 4 (dk_at dksX1_search_13 17 rfl rfl)
theorem dX1_search_320 : decode cX1_search 320 = .ok (.ifCond .ne 40, 3) := dk_154 0 40 (dk_at dksX1_search_13 20 rfl rfl)
theorem dX1_search_323 : decode cX1_search 323 = .ok (.iload_n 2, 1) := dk_28 (dk_at dksX1_search_13 23 rfl rfl)
theorem dX1_search_324 : decode cX1_search 324 = .ok (.istore 6, 2) := dk_54 6 (dk_at dksX1_search_14 0 rfl rfl)
theorem dX1_search_326 : decode cX1_search 326 = .ok (.aload_n 0, 1) := dk_42 (dk_at dksX1_search_14 2 rfl rfl)
theorem dX1_search_327 : decode cX1_search 327 = .ok (.iload_n 2, 1) := dk_28 (dk_at dksX1_search_14 3 rfl rfl)
theorem dX1_search_328 : decode cX1_search 328 = .ok (.putfield 81, 3) := dk_181 0 81 (dk_at dksX1_search_14 4 rfl rfl)
theorem dX1_search_331 : decode cX1_search 331 = .ok (.iload_n 2, 1) := dk_28 (dk_at dksX1_search_14 7 rfl rfl)
theorem dX1_search_332 : decode cX1_search 332 = .ok (.iconst 1, 1) := dk_4 (dk_at dksX1_search_14 8 rfl rfl)
theorem dX1_search_333 : decode cX1_search 333 = .ok (.if_icmp .ne 7, 3) := dk_160 0 7 (dk_at dksX1_search_14 9 rfl rfl)
theorem dX1_search_336 : decode cX1_search 336 = .ok (.aload_n 0, 1) := dk_42 (dk_at dksX1_search_14 12 rfl rfl)
theorem dX1_search_337 : decode cX1_search 337 = .ok (.invokevirtual 344, 3) := dk_182 1 88 (dk_at dksX1_search_14 13 rfl rfl)
theorem dX1_search_340 : decode cX1_search 340 = .ok (.iload_n 2, 1) := dk_28 (dk_at dksX1_search_14 16 rfl rfl)
theorem dX1_search_341 : decode cX1_search 341 = .ok (.sipush (-1004), 3) := dk_17 252 20 (dk_at dksX1_search_14 17 rfl rfl)
theorem dX1_search_344 : decode cX1_search 344 = .ok (.if_icmp .eq 13, 3) := dk_159 0 13 (dk_at dksX1_search_14 20 rfl rfl)
theorem dX1_search_347 : decode cX1_search 347 = .ok (.aload_n 0, 1) := dk_42 (dk_at dksX1_search_14 23 rfl rfl)
theorem dX1_search_348 : decode cX1_search 348 = .ok (.iconst (-1), 1) := dk_2 (dk_at dksX1_search_15 0 rfl rfl)
theorem dX1_search_349 : decode cX1_search 349 = .ok (.invokevirtual 312, 3) := dk_182 1 56 (dk_at dksX1_search_15 1 rfl rfl)
theorem dX1_search_352 : decode cX1_search 352 = .ok (.aload_n 0, 1) := dk_42 (dk_at dksX1_search_15 4 rfl rfl)
theorem dX1_search_353 : decode cX1_search 353 = .ok (.iconst 0, 1) := dk_3 (dk_at dksX1_search_15 5 rfl rfl)
theorem dX1_search_354 : decode cX1_search 354 = .ok (.putfield 139, 3) := dk_181 0 139 (dk_at dksX1_search_15 6 rfl rfl)
theorem dX1_search_357 : decode cX1_search 357 = .ok (.iload 6, 2) := dk_21 6 (dk_at dksX1_search_15 9 rfl rfl)
theorem dX1_search_359 : decode cX1_search 359 = .ok (.ireturn, 1) := dk_172 (dk_at dksX1_search_15 11 rfl rfl)
theorem dX1_search_360 : decode cX1_search 360 = .ok (.aload_n 0, 1) := dk_42 (dk_at dksX1_search_15 12 rfl rfl)
theorem dX1_search_361 : decode cX1_search 361 = .ok (.invokevirtual 263, 3) := dk_182 1 7 (dk_at dksX1_search_15 13 rfl rfl)
theorem dX1_search_364 : decode cX1_search 364 = .ok (.aload_n 0, 1) := dk_42 (dk_at dksX1_search_15 16 rfl rfl)
theorem dX1_search_365 : decode cX1_search 365 = .ok (.dup, 1) := dk_89 (dk_at dksX1_search_15 17 rfl rfl)
theorem dX1_search_366 : decode cX1_search 366 = .ok (.getfield 163, 3) := dk_180 0 163 (dk_at dksX1_search_15 18 rfl rfl)
theorem dX1_search_369 : decode cX1_search 369 = .ok (.iconst 1, 1) := dk_4 (dk_at dksX1_search_15 21 rfl rfl)
theorem dX1_search_370 : decode cX1_search 370 = .ok (.iadd, 1) := dk_96 (dk_at dksX1_search_15 22 rfl rfl)
theorem dX1_search_371 : decode cX1_search 371 = .ok (.putfield 163, 3) := dk_181 0 163 (dk_at dksX1_search_16 0 rfl rfl)
theorem dX1_search_374 : decode cX1_search 374 = .ok (.aload_n 0, 1) := dk_42 (dk_at dksX1_search_16 3 rfl rfl)
theorem dX1_search_375 : decode cX1_search 375 = .ok (.invokevirtual 362, 3) := dk_182 1 106 (dk_at dksX1_search_16 4 rfl rfl)
theorem dX1_search_378 : decode cX1_search 378 = .ok (.aload_n 0, 1) := dk_42 (dk_at dksX1_search_16 7 rfl rfl)
theorem dX1_search_379 : decode cX1_search 379 = .ok (.iload 5, 2) := dk_21 5 (dk_at dksX1_search_16 8 rfl rfl)
theorem dX1_search_381 : decode cX1_search 381 = .ok (.sipush (-1005), 3) := dk_17 252 19 (dk_at dksX1_search_16 10 rfl rfl)
theorem dX1_search_384 : decode cX1_search 384 = .ok (.invokevirtual 269, 3) := dk_182 1 13 (dk_at dksX1_search_16 13 rfl rfl)
theorem dX1_search_387 : decode cX1_search 387 = .ok (.goto (-378), 3) := dk_167 254 134 (dk_at dksX1_search_16 16 rfl rfl)
theorem dX1_search_390 : decode cX1_search 390 = .ok (.astore 7, 2) := dk_58 7 (dk_at dksX1_search_16 19 rfl rfl)
theorem dX1_search_392 : decode cX1_search 392 = .ok (.aload_n 0, 1) := dk_42 (dk_at dksX1_search_16 21 rfl rfl)
theorem dX1_search_393 : decode cX1_search 393 = .ok (.iload_n 2, 1) := dk_28 (dk_at dksX1_search_16 22 rfl rfl)
theorem dX1_search_394 : decode cX1_search 394 = .ok (.putfield 81, 3) := dk_181 0 81 (dk_at dksX1_search_17 0 rfl rfl)
theorem dX1_search_397 : decode cX1_search 397 = .ok (.iload_n 2, 1) := dk_28 (dk_at dksX1_search_17 3 rfl rfl)
theorem dX1_search_398 : decode cX1_search 398 = .ok (.iconst 1, 1) := dk_4 (dk_at dksX1_search_17 4 rfl rfl)
theorem dX1_search_399 : decode cX1_search 399 = .ok (.if_icmp .ne 7, 3) := dk_160 0 7 (dk_at dksX1_search_17 5 rfl rfl)
theorem dX1_search_402 : decode cX1_search 402 = .ok (.aload_n 0, 1) := dk_42 (dk_at dksX1_search_17 8 rfl rfl)
theorem dX1_search_403 : decode cX1_search 403 = .ok (.invokevirtual 344, 3) := dk_182 1 88 (dk_at dksX1_search_17 9 rfl rfl)
theorem dX1_search_406 : decode cX1_search 406 = .ok (.iload_n 2, 1) := dk_28 (dk_at dksX1_search_17 12 rfl rfl)
theorem dX1_search_407 : decode cX1_search 407 = .ok (.sipush (-1004), 3) := dk_17 252 20 (dk_at dksX1_search_17 13 rfl rfl)
theorem dX1_search_410 : decode cX1_search 410 = .ok (.if_icmp .eq 13, 3) := dk_159 0 13 (dk_at dksX1_search_17 16 rfl rfl)
theorem dX1_search_413 : decode cX1_search 413 = .ok (.aload_n 0, 1) := dk_42 (dk_at dksX1_search_17 19 rfl rfl)
theorem dX1_search_414 : decode cX1_search 414 = .ok (.iconst (-1), 1) := dk_2 (dk_at dksX1_search_17 20 rfl rfl)
theorem dX1_search_415 : decode cX1_search 415 = .ok (.invokevirtual 312, 3) := dk_182 1 56 (dk_at dksX1_search_17 21 rfl rfl)
theorem dX1_search_418 : decode cX1_search 418 = .ok (.aload_n 0, 1) := dk_42 (dk_at dksX1_search_18 0 rfl rfl)
theorem dX1_search_419 : decode cX1_search 419 = .ok (.iconst 0, 1) := dk_3 (dk_at dksX1_search_18 1 rfl rfl)
theorem dX1_search_420 : decode cX1_search 420 = .ok (.putfield 139, 3) := dk_181 0 139 (dk_at dksX1_search_18 2 rfl rfl)
theorem dX1_search_423 : decode cX1_search 423 = .ok (.aload 7, 2) := dk_25 7 (dk_at dksX1_search_18 5 rfl rfl)
theorem dX1_search_425 : decode cX1_search 425 = .ok (.athrow, 1) := dk_191 (dk_at dksX1_search_18 7 rfl rfl)
abbrev cX1_force : ByteArray := prog_5_method_19_code
def yX1_force : MethodName := ⟨RX1, "force", "()I"⟩
def dkwX1_force_2 : List UInt8 := [180, 0, 160, 4, 96, 181, 0, 160, 42, 42, 28, 182, 1, 10, 28, 182, 1, 13, 167, 255, 191]
abbrev dktX1_force_2 : List UInt8 := dkwX1_force_2 ++ []
def dkwX1_force_1 : List UInt8 := [160, 0, 7, 17, 252, 19, 172, 42, 180, 1, 4, 154, 0, 7, 17, 252, 20, 172, 42, 182, 1, 7, 42, 89]
abbrev dktX1_force_1 : List UInt8 := dkwX1_force_1 ++ dktX1_force_2
def dkwX1_force_0 : List UInt8 := [42, 182, 0, 253, 60, 27, 17, 252, 19, 159, 0, 5, 27, 172, 42, 182, 1, 1, 61, 28, 17, 252, 19]
abbrev dktX1_force_0 : List UInt8 := dkwX1_force_0 ++ dktX1_force_1
theorem dksX1_force_0 : cX1_force.data.toList.drop 0 = dktX1_force_0 := by decide +kernel
theorem dksX1_force_1 : cX1_force.data.toList.drop 23 = dktX1_force_1 := dk_seg dksX1_force_0 23 rfl rfl
theorem dksX1_force_2 : cX1_force.data.toList.drop 47 = dktX1_force_2 := dk_seg dksX1_force_1 24 rfl rfl
theorem dX1_force_0 : decode cX1_force 0 = .ok (.aload_n 0, 1) := dk_42 (dk_at dksX1_force_0 0 rfl rfl)
theorem dX1_force_1 : decode cX1_force 1 = .ok (.invokevirtual 253, 3) := dk_182 0 253 (dk_at dksX1_force_0 1 rfl rfl)
theorem dX1_force_4 : decode cX1_force 4 = .ok (.istore_n 1, 1) := dk_60 (dk_at dksX1_force_0 4 rfl rfl)
theorem dX1_force_5 : decode cX1_force 5 = .ok (.iload_n 1, 1) := dk_27 (dk_at dksX1_force_0 5 rfl rfl)
theorem dX1_force_6 : decode cX1_force 6 = .ok (.sipush (-1005), 3) := dk_17 252 19 (dk_at dksX1_force_0 6 rfl rfl)
theorem dX1_force_9 : decode cX1_force 9 = .ok (.if_icmp .eq 5, 3) := dk_159 0 5 (dk_at dksX1_force_0 9 rfl rfl)
theorem dX1_force_12 : decode cX1_force 12 = .ok (.iload_n 1, 1) := dk_27 (dk_at dksX1_force_0 12 rfl rfl)
theorem dX1_force_13 : decode cX1_force 13 = .ok (.ireturn, 1) := dk_172 (dk_at dksX1_force_0 13 rfl rfl)
theorem dX1_force_14 : decode cX1_force 14 = .ok (.aload_n 0, 1) := dk_42 (dk_at dksX1_force_0 14 rfl rfl)
theorem dX1_force_15 : decode cX1_force 15 = .ok (.invokevirtual 257, 3) := dk_182 1 1 (dk_at dksX1_force_0 15 rfl rfl)
theorem dX1_force_18 : decode cX1_force 18 = .ok (.istore_n 2, 1) := dk_61 (dk_at dksX1_force_0 18 rfl rfl)
theorem dX1_force_19 : decode cX1_force 19 = .ok (.iload_n 2, 1) := dk_28 (dk_at dksX1_force_0 19 rfl rfl)
theorem dX1_force_20 : decode cX1_force 20 = .ok (.sipush (-1005), 3) := dk_17 252 19 (dk_at dksX1_force_0 20 rfl rfl)
theorem dX1_force_23 : decode cX1_force 23 = .ok (.if_icmp .ne 7, 3) := dk_160 0 7 (dk_at dksX1_force_1 0 rfl rfl)
theorem dX1_force_26 : decode cX1_force 26 = .ok (.sipush (-1005), 3) := dk_17 252 19 (dk_at dksX1_force_1 3 rfl rfl)
theorem dX1_force_29 : decode cX1_force 29 = .ok (.ireturn, 1) := dk_172 (dk_at dksX1_force_1 6 rfl rfl)
theorem dX1_force_30 : decode cX1_force 30 = .ok (.aload_n 0, 1) := dk_42 (dk_at dksX1_force_1 7 rfl rfl)
theorem dX1_force_31 : decode cX1_force 31 = .ok (.getfield 260, 3) := dk_180 1 4 (dk_at dksX1_force_1 8 rfl rfl)
theorem dX1_force_34 : decode cX1_force 34 = .ok (.ifCond .ne 7, 3) := dk_154 0 7 (dk_at dksX1_force_1 11 rfl rfl)
theorem dX1_force_37 : decode cX1_force 37 = .ok (.sipush (-1004), 3) := dk_17 252 20 (dk_at dksX1_force_1 14 rfl rfl)
theorem dX1_force_40 : decode cX1_force 40 = .ok (.ireturn, 1) := dk_172 (dk_at dksX1_force_1 17 rfl rfl)
theorem dX1_force_41 : decode cX1_force 41 = .ok (.aload_n 0, 1) := dk_42 (dk_at dksX1_force_1 18 rfl rfl)
theorem dX1_force_42 : decode cX1_force 42 = .ok (.invokevirtual 263, 3) := dk_182 1 7 (dk_at dksX1_force_1 19 rfl rfl)
theorem dX1_force_45 : decode cX1_force 45 = .ok (.aload_n 0, 1) := dk_42 (dk_at dksX1_force_1 22 rfl rfl)
theorem dX1_force_46 : decode cX1_force 46 = .ok (.dup, 1) := dk_89 (dk_at dksX1_force_1 23 rfl rfl)
theorem dX1_force_47 : decode cX1_force 47 = .ok (.getfield 160, 3) := dk_180 0 160 (dk_at dksX1_force_2 0 rfl rfl)
theorem dX1_force_50 : decode cX1_force 50 = .ok (.iconst 1, 1) := dk_4 (dk_at dksX1_force_2 3 rfl rfl)
theorem dX1_force_51 : decode cX1_force 51 = .ok (.iadd, 1) := dk_96 (dk_at dksX1_force_2 4 rfl rfl)
theorem dX1_force_52 : decode cX1_force 52 = .ok (.putfield 160, 3) := dk_181 0 160 (dk_at dksX1_force_2 5 rfl rfl)
theorem dX1_force_55 : decode cX1_force 55 = .ok (.aload_n 0, 1) := dk_42 (dk_at dksX1_force_2 8 rfl rfl)
theorem dX1_force_56 : decode cX1_force 56 = .ok (.aload_n 0, 1) := dk_42 (dk_at dksX1_force_2 9 rfl rfl)
theorem dX1_force_57 : decode cX1_force 57 = .ok (.iload_n 2, 1) := dk_28 (dk_at dksX1_force_2 10 rfl rfl)
theorem dX1_force_58 : decode cX1_force 58 = .ok (.invokevirtual 266, 3) := dk_182 1 10 (dk_at dksX1_force_2 11 rfl rfl)
theorem dX1_force_61 : decode cX1_force 61 = .ok (.iload_n 2, 1) := dk_28 (dk_at dksX1_force_2 14 rfl rfl)
theorem dX1_force_62 : decode cX1_force 62 = .ok (.invokevirtual 269, 3) := dk_182 1 13 (dk_at dksX1_force_2 15 rfl rfl)
theorem dX1_force_65 : decode cX1_force 65 = .ok (.goto (-65), 3) := dk_167 255 191 (dk_at dksX1_force_2 18 rfl rfl)
abbrev cX1_firstQuarrel : ByteArray := prog_5_method_16_code
def yX1_firstQuarrel : MethodName := ⟨RX1, "firstQuarrel", "()I"⟩
def dkwX1_firstQuarrel_3 : List UInt8 := [172]
abbrev dktX1_firstQuarrel_3 : List UInt8 := dkwX1_firstQuarrel_3 ++ []
def dkwX1_firstQuarrel_2 : List UInt8 := [160, 0, 6, 21, 4, 172, 32, 32, 10, 101, 127, 65, 167, 255, 213, 132, 1, 1, 167, 255, 194, 17, 252, 19]
abbrev dktX1_firstQuarrel_2 : List UInt8 := dkwX1_firstQuarrel_2 ++ dktX1_firstQuarrel_3
def dkwX1_firstQuarrel_1 : List UInt8 := [104, 32, 184, 0, 244, 96, 54, 4, 42, 180, 0, 22, 21, 4, 46, 42, 180, 0, 19, 21, 4, 46]
abbrev dktX1_firstQuarrel_1 : List UInt8 := dkwX1_firstQuarrel_1 ++ dktX1_firstQuarrel_2
def dkwX1_firstQuarrel_0 : List UInt8 := [3, 60, 27, 16, 22, 162, 0, 62, 42, 180, 0, 32, 27, 47, 65, 32, 9, 148, 153, 0, 43, 16, 64, 27]
abbrev dktX1_firstQuarrel_0 : List UInt8 := dkwX1_firstQuarrel_0 ++ dktX1_firstQuarrel_1
theorem dksX1_firstQuarrel_0 : cX1_firstQuarrel.data.toList.drop 0 = dktX1_firstQuarrel_0 := by decide +kernel
theorem dksX1_firstQuarrel_1 : cX1_firstQuarrel.data.toList.drop 24 = dktX1_firstQuarrel_1 := dk_seg dksX1_firstQuarrel_0 24 rfl rfl
theorem dksX1_firstQuarrel_2 : cX1_firstQuarrel.data.toList.drop 46 = dktX1_firstQuarrel_2 := dk_seg dksX1_firstQuarrel_1 22 rfl rfl
theorem dksX1_firstQuarrel_3 : cX1_firstQuarrel.data.toList.drop 70 = dktX1_firstQuarrel_3 := dk_seg dksX1_firstQuarrel_2 24 rfl rfl
theorem dX1_firstQuarrel_0 : decode cX1_firstQuarrel 0 = .ok (.iconst 0, 1) := dk_3 (dk_at dksX1_firstQuarrel_0 0 rfl rfl)
theorem dX1_firstQuarrel_1 : decode cX1_firstQuarrel 1 = .ok (.istore_n 1, 1) := dk_60 (dk_at dksX1_firstQuarrel_0 1 rfl rfl)
theorem dX1_firstQuarrel_2 : decode cX1_firstQuarrel 2 = .ok (.iload_n 1, 1) := dk_27 (dk_at dksX1_firstQuarrel_0 2 rfl rfl)
theorem dX1_firstQuarrel_3 : decode cX1_firstQuarrel 3 = .ok (.bipush 22, 2) := dk_16 22 (dk_at dksX1_firstQuarrel_0 3 rfl rfl)
theorem dX1_firstQuarrel_5 : decode cX1_firstQuarrel 5 = .ok (.if_icmp .ge 62, 3) := dk_162 0 62 (dk_at dksX1_firstQuarrel_0 5 rfl rfl)
theorem dX1_firstQuarrel_8 : decode cX1_firstQuarrel 8 = .ok (.aload_n 0, 1) := dk_42 (dk_at dksX1_firstQuarrel_0 8 rfl rfl)
theorem dX1_firstQuarrel_9 : decode cX1_firstQuarrel 9 = .ok (.getfield 32, 3) := dk_180 0 32 (dk_at dksX1_firstQuarrel_0 9 rfl rfl)
theorem dX1_firstQuarrel_12 : decode cX1_firstQuarrel 12 = .ok (.iload_n 1, 1) := dk_27 (dk_at dksX1_firstQuarrel_0 12 rfl rfl)
theorem dX1_firstQuarrel_13 : decode cX1_firstQuarrel 13 = .ok (.laload, 1) := dk_47 (dk_at dksX1_firstQuarrel_0 13 rfl rfl)
theorem dX1_firstQuarrel_14 : decode cX1_firstQuarrel 14 = .ok (.lstore_n 2, 1) := dk_65 (dk_at dksX1_firstQuarrel_0 14 rfl rfl)
theorem dX1_firstQuarrel_15 : decode cX1_firstQuarrel 15 = .ok (.lload_n 2, 1) := dk_32 (dk_at dksX1_firstQuarrel_0 15 rfl rfl)
theorem dX1_firstQuarrel_16 : decode cX1_firstQuarrel 16 = .ok (.lconst 0, 1) := dk_9 (dk_at dksX1_firstQuarrel_0 16 rfl rfl)
theorem dX1_firstQuarrel_17 : decode cX1_firstQuarrel 17 = .ok (.lcmp, 1) := dk_148 (dk_at dksX1_firstQuarrel_0 17 rfl rfl)
theorem dX1_firstQuarrel_18 : decode cX1_firstQuarrel 18 = .ok (.ifCond .eq 43, 3) := dk_153 0 43 (dk_at dksX1_firstQuarrel_0 18 rfl rfl)
theorem dX1_firstQuarrel_21 : decode cX1_firstQuarrel 21 = .ok (.bipush 64, 2) := dk_16 64 (dk_at dksX1_firstQuarrel_0 21 rfl rfl)
theorem dX1_firstQuarrel_23 : decode cX1_firstQuarrel 23 = .ok (.iload_n 1, 1) := dk_27 (dk_at dksX1_firstQuarrel_0 23 rfl rfl)
theorem dX1_firstQuarrel_24 : decode cX1_firstQuarrel 24 = .ok (.imul, 1) := dk_104 (dk_at dksX1_firstQuarrel_1 0 rfl rfl)
theorem dX1_firstQuarrel_25 : decode cX1_firstQuarrel 25 = .ok (.lload_n 2, 1) := dk_32 (dk_at dksX1_firstQuarrel_1 1 rfl rfl)
theorem dX1_firstQuarrel_26 : decode cX1_firstQuarrel 26 = .ok (.invokestatic 244, 3) := dk_184 0 244 (dk_at dksX1_firstQuarrel_1 2 rfl rfl)
theorem dX1_firstQuarrel_29 : decode cX1_firstQuarrel 29 = .ok (.iadd, 1) := dk_96 (dk_at dksX1_firstQuarrel_1 5 rfl rfl)
theorem dX1_firstQuarrel_30 : decode cX1_firstQuarrel 30 = .ok (.istore 4, 2) := dk_54 4 (dk_at dksX1_firstQuarrel_1 6 rfl rfl)
theorem dX1_firstQuarrel_32 : decode cX1_firstQuarrel 32 = .ok (.aload_n 0, 1) := dk_42 (dk_at dksX1_firstQuarrel_1 8 rfl rfl)
theorem dX1_firstQuarrel_33 : decode cX1_firstQuarrel 33 = .ok (.getfield 22, 3) := dk_180 0 22 (dk_at dksX1_firstQuarrel_1 9 rfl rfl)
theorem dX1_firstQuarrel_36 : decode cX1_firstQuarrel 36 = .ok (.iload 4, 2) := dk_21 4 (dk_at dksX1_firstQuarrel_1 12 rfl rfl)
theorem dX1_firstQuarrel_38 : decode cX1_firstQuarrel 38 = .ok (.iaload, 1) := dk_46 (dk_at dksX1_firstQuarrel_1 14 rfl rfl)
theorem dX1_firstQuarrel_39 : decode cX1_firstQuarrel 39 = .ok (.aload_n 0, 1) := dk_42 (dk_at dksX1_firstQuarrel_1 15 rfl rfl)
theorem dX1_firstQuarrel_40 : decode cX1_firstQuarrel 40 = .ok (.getfield 19, 3) := dk_180 0 19 (dk_at dksX1_firstQuarrel_1 16 rfl rfl)
theorem dX1_firstQuarrel_43 : decode cX1_firstQuarrel 43 = .ok (.iload 4, 2) := dk_21 4 (dk_at dksX1_firstQuarrel_1 19 rfl rfl)
theorem dX1_firstQuarrel_45 : decode cX1_firstQuarrel 45 = .ok (.iaload, 1) := dk_46 (dk_at dksX1_firstQuarrel_1 21 rfl rfl)
theorem dX1_firstQuarrel_46 : decode cX1_firstQuarrel 46 = .ok (.if_icmp .ne 6, 3) := dk_160 0 6 (dk_at dksX1_firstQuarrel_2 0 rfl rfl)
theorem dX1_firstQuarrel_49 : decode cX1_firstQuarrel 49 = .ok (.iload 4, 2) := dk_21 4 (dk_at dksX1_firstQuarrel_2 3 rfl rfl)
theorem dX1_firstQuarrel_51 : decode cX1_firstQuarrel 51 = .ok (.ireturn, 1) := dk_172 (dk_at dksX1_firstQuarrel_2 5 rfl rfl)
theorem dX1_firstQuarrel_52 : decode cX1_firstQuarrel 52 = .ok (.lload_n 2, 1) := dk_32 (dk_at dksX1_firstQuarrel_2 6 rfl rfl)
theorem dX1_firstQuarrel_53 : decode cX1_firstQuarrel 53 = .ok (.lload_n 2, 1) := dk_32 (dk_at dksX1_firstQuarrel_2 7 rfl rfl)
theorem dX1_firstQuarrel_54 : decode cX1_firstQuarrel 54 = .ok (.lconst 1, 1) := dk_10 (dk_at dksX1_firstQuarrel_2 8 rfl rfl)
theorem dX1_firstQuarrel_55 : decode cX1_firstQuarrel 55 = .ok (.lsub, 1) := dk_101 (dk_at dksX1_firstQuarrel_2 9 rfl rfl)
theorem dX1_firstQuarrel_56 : decode cX1_firstQuarrel 56 = .ok (.land, 1) := dk_127 (dk_at dksX1_firstQuarrel_2 10 rfl rfl)
theorem dX1_firstQuarrel_57 : decode cX1_firstQuarrel 57 = .ok (.lstore_n 2, 1) := dk_65 (dk_at dksX1_firstQuarrel_2 11 rfl rfl)
theorem dX1_firstQuarrel_58 : decode cX1_firstQuarrel 58 = .ok (.goto (-43), 3) := dk_167 255 213 (dk_at dksX1_firstQuarrel_2 12 rfl rfl)
theorem dX1_firstQuarrel_61 : decode cX1_firstQuarrel 61 = .ok (.iinc 1 1, 3) := dk_132 1 1 (dk_at dksX1_firstQuarrel_2 15 rfl rfl)
theorem dX1_firstQuarrel_64 : decode cX1_firstQuarrel 64 = .ok (.goto (-62), 3) := dk_167 255 194 (dk_at dksX1_firstQuarrel_2 18 rfl rfl)
theorem dX1_firstQuarrel_67 : decode cX1_firstQuarrel 67 = .ok (.sipush (-1005), 3) := dk_17 252 19 (dk_at dksX1_firstQuarrel_2 21 rfl rfl)
theorem dX1_firstQuarrel_70 : decode cX1_firstQuarrel 70 = .ok (.ireturn, 1) := dk_172 (dk_at dksX1_firstQuarrel_3 0 rfl rfl)
abbrev cX1_firstForcing : ByteArray := prog_5_method_17_code
def yX1_firstForcing : MethodName := ⟨RX1, "firstForcing", "()I"⟩
def dkwX1_firstForcing_1 : List UInt8 := [180, 0, 32, 27, 47, 184, 0, 244, 96, 172, 132, 1, 1, 167, 255, 221, 17, 252, 19, 172]
abbrev dktX1_firstForcing_1 : List UInt8 := dkwX1_firstForcing_1 ++ []
def dkwX1_firstForcing_0 : List UInt8 := [3, 60, 27, 16, 22, 162, 0, 35, 42, 180, 0, 32, 27, 47, 9, 148, 153, 0, 18, 16, 64, 27, 104, 42]
abbrev dktX1_firstForcing_0 : List UInt8 := dkwX1_firstForcing_0 ++ dktX1_firstForcing_1
theorem dksX1_firstForcing_0 : cX1_firstForcing.data.toList.drop 0 = dktX1_firstForcing_0 := by decide +kernel
theorem dksX1_firstForcing_1 : cX1_firstForcing.data.toList.drop 24 = dktX1_firstForcing_1 := dk_seg dksX1_firstForcing_0 24 rfl rfl
theorem dX1_firstForcing_0 : decode cX1_firstForcing 0 = .ok (.iconst 0, 1) := dk_3 (dk_at dksX1_firstForcing_0 0 rfl rfl)
theorem dX1_firstForcing_1 : decode cX1_firstForcing 1 = .ok (.istore_n 1, 1) := dk_60 (dk_at dksX1_firstForcing_0 1 rfl rfl)
theorem dX1_firstForcing_2 : decode cX1_firstForcing 2 = .ok (.iload_n 1, 1) := dk_27 (dk_at dksX1_firstForcing_0 2 rfl rfl)
theorem dX1_firstForcing_3 : decode cX1_firstForcing 3 = .ok (.bipush 22, 2) := dk_16 22 (dk_at dksX1_firstForcing_0 3 rfl rfl)
theorem dX1_firstForcing_5 : decode cX1_firstForcing 5 = .ok (.if_icmp .ge 35, 3) := dk_162 0 35 (dk_at dksX1_firstForcing_0 5 rfl rfl)
theorem dX1_firstForcing_8 : decode cX1_firstForcing 8 = .ok (.aload_n 0, 1) := dk_42 (dk_at dksX1_firstForcing_0 8 rfl rfl)
theorem dX1_firstForcing_9 : decode cX1_firstForcing 9 = .ok (.getfield 32, 3) := dk_180 0 32 (dk_at dksX1_firstForcing_0 9 rfl rfl)
theorem dX1_firstForcing_12 : decode cX1_firstForcing 12 = .ok (.iload_n 1, 1) := dk_27 (dk_at dksX1_firstForcing_0 12 rfl rfl)
theorem dX1_firstForcing_13 : decode cX1_firstForcing 13 = .ok (.laload, 1) := dk_47 (dk_at dksX1_firstForcing_0 13 rfl rfl)
theorem dX1_firstForcing_14 : decode cX1_firstForcing 14 = .ok (.lconst 0, 1) := dk_9 (dk_at dksX1_firstForcing_0 14 rfl rfl)
theorem dX1_firstForcing_15 : decode cX1_firstForcing 15 = .ok (.lcmp, 1) := dk_148 (dk_at dksX1_firstForcing_0 15 rfl rfl)
theorem dX1_firstForcing_16 : decode cX1_firstForcing 16 = .ok (.ifCond .eq 18, 3) := dk_153 0 18 (dk_at dksX1_firstForcing_0 16 rfl rfl)
theorem dX1_firstForcing_19 : decode cX1_firstForcing 19 = .ok (.bipush 64, 2) := dk_16 64 (dk_at dksX1_firstForcing_0 19 rfl rfl)
theorem dX1_firstForcing_21 : decode cX1_firstForcing 21 = .ok (.iload_n 1, 1) := dk_27 (dk_at dksX1_firstForcing_0 21 rfl rfl)
theorem dX1_firstForcing_22 : decode cX1_firstForcing 22 = .ok (.imul, 1) := dk_104 (dk_at dksX1_firstForcing_0 22 rfl rfl)
theorem dX1_firstForcing_23 : decode cX1_firstForcing 23 = .ok (.aload_n 0, 1) := dk_42 (dk_at dksX1_firstForcing_0 23 rfl rfl)
theorem dX1_firstForcing_24 : decode cX1_firstForcing 24 = .ok (.getfield 32, 3) := dk_180 0 32 (dk_at dksX1_firstForcing_1 0 rfl rfl)
theorem dX1_firstForcing_27 : decode cX1_firstForcing 27 = .ok (.iload_n 1, 1) := dk_27 (dk_at dksX1_firstForcing_1 3 rfl rfl)
theorem dX1_firstForcing_28 : decode cX1_firstForcing 28 = .ok (.laload, 1) := dk_47 (dk_at dksX1_firstForcing_1 4 rfl rfl)
theorem dX1_firstForcing_29 : decode cX1_firstForcing 29 = .ok (.invokestatic 244, 3) := dk_184 0 244 (dk_at dksX1_firstForcing_1 5 rfl rfl)
theorem dX1_firstForcing_32 : decode cX1_firstForcing 32 = .ok (.iadd, 1) := dk_96 (dk_at dksX1_firstForcing_1 8 rfl rfl)
theorem dX1_firstForcing_33 : decode cX1_firstForcing 33 = .ok (.ireturn, 1) := dk_172 (dk_at dksX1_firstForcing_1 9 rfl rfl)
theorem dX1_firstForcing_34 : decode cX1_firstForcing 34 = .ok (.iinc 1 1, 3) := dk_132 1 1 (dk_at dksX1_firstForcing_1 10 rfl rfl)
theorem dX1_firstForcing_37 : decode cX1_firstForcing 37 = .ok (.goto (-35), 3) := dk_167 255 221 (dk_at dksX1_firstForcing_1 13 rfl rfl)
theorem dX1_firstForcing_40 : decode cX1_firstForcing 40 = .ok (.sipush (-1005), 3) := dk_17 252 19 (dk_at dksX1_firstForcing_1 16 rfl rfl)
theorem dX1_firstForcing_43 : decode cX1_firstForcing 43 = .ok (.ireturn, 1) := dk_172 (dk_at dksX1_firstForcing_1 19 rfl rfl)
abbrev cX1_step : ByteArray := prog_5_method_20_code
def yX1_step : MethodName := ⟨RX1, "step", "()V"⟩
def dkwX1_step_0 : List UInt8 := [42, 89, 180, 1, 4, 4, 100, 181, 1, 4, 42, 89, 180, 0, 157, 4, 96, 181, 0, 157, 177]
abbrev dktX1_step_0 : List UInt8 := dkwX1_step_0 ++ []
theorem dksX1_step_0 : cX1_step.data.toList.drop 0 = dktX1_step_0 := by decide +kernel
theorem dX1_step_0 : decode cX1_step 0 = .ok (.aload_n 0, 1) := dk_42 (dk_at dksX1_step_0 0 rfl rfl)
theorem dX1_step_1 : decode cX1_step 1 = .ok (.dup, 1) := dk_89 (dk_at dksX1_step_0 1 rfl rfl)
theorem dX1_step_2 : decode cX1_step 2 = .ok (.getfield 260, 3) := dk_180 1 4 (dk_at dksX1_step_0 2 rfl rfl)
theorem dX1_step_5 : decode cX1_step 5 = .ok (.iconst 1, 1) := dk_4 (dk_at dksX1_step_0 5 rfl rfl)
theorem dX1_step_6 : decode cX1_step 6 = .ok (.isub, 1) := dk_100 (dk_at dksX1_step_0 6 rfl rfl)
theorem dX1_step_7 : decode cX1_step 7 = .ok (.putfield 260, 3) := dk_181 1 4 (dk_at dksX1_step_0 7 rfl rfl)
theorem dX1_step_10 : decode cX1_step 10 = .ok (.aload_n 0, 1) := dk_42 (dk_at dksX1_step_0 10 rfl rfl)
theorem dX1_step_11 : decode cX1_step 11 = .ok (.dup, 1) := dk_89 (dk_at dksX1_step_0 11 rfl rfl)
theorem dX1_step_12 : decode cX1_step 12 = .ok (.getfield 157, 3) := dk_180 0 157 (dk_at dksX1_step_0 12 rfl rfl)
theorem dX1_step_15 : decode cX1_step 15 = .ok (.iconst 1, 1) := dk_4 (dk_at dksX1_step_0 15 rfl rfl)
theorem dX1_step_16 : decode cX1_step 16 = .ok (.iadd, 1) := dk_96 (dk_at dksX1_step_0 16 rfl rfl)
theorem dX1_step_17 : decode cX1_step 17 = .ok (.putfield 157, 3) := dk_181 0 157 (dk_at dksX1_step_0 17 rfl rfl)
theorem dX1_step_20 : decode cX1_step 20 = .ok (.return_, 1) := dk_177 (dk_at dksX1_step_0 20 rfl rfl)
abbrev cX1_openOf : ByteArray := prog_5_method_18_code
def yX1_openOf : MethodName := ⟨RX1, "openOf", "(I)I"⟩
def dkwX1_openOf_1 : List UInt8 := [167, 255, 240, 42, 180, 0, 36, 28, 46, 172]
abbrev dktX1_openOf_1 : List UInt8 := dkwX1_openOf_1 ++ []
def dkwX1_openOf_0 : List UInt8 := [42, 180, 0, 15, 27, 46, 61, 42, 42, 180, 0, 36, 28, 46, 182, 0, 250, 154, 0, 9, 132, 2, 1]
abbrev dktX1_openOf_0 : List UInt8 := dkwX1_openOf_0 ++ dktX1_openOf_1
theorem dksX1_openOf_0 : cX1_openOf.data.toList.drop 0 = dktX1_openOf_0 := by decide +kernel
theorem dksX1_openOf_1 : cX1_openOf.data.toList.drop 23 = dktX1_openOf_1 := dk_seg dksX1_openOf_0 23 rfl rfl
theorem dX1_openOf_0 : decode cX1_openOf 0 = .ok (.aload_n 0, 1) := dk_42 (dk_at dksX1_openOf_0 0 rfl rfl)
theorem dX1_openOf_1 : decode cX1_openOf 1 = .ok (.getfield 15, 3) := dk_180 0 15 (dk_at dksX1_openOf_0 1 rfl rfl)
theorem dX1_openOf_4 : decode cX1_openOf 4 = .ok (.iload_n 1, 1) := dk_27 (dk_at dksX1_openOf_0 4 rfl rfl)
theorem dX1_openOf_5 : decode cX1_openOf 5 = .ok (.iaload, 1) := dk_46 (dk_at dksX1_openOf_0 5 rfl rfl)
theorem dX1_openOf_6 : decode cX1_openOf 6 = .ok (.istore_n 2, 1) := dk_61 (dk_at dksX1_openOf_0 6 rfl rfl)
theorem dX1_openOf_7 : decode cX1_openOf 7 = .ok (.aload_n 0, 1) := dk_42 (dk_at dksX1_openOf_0 7 rfl rfl)
theorem dX1_openOf_8 : decode cX1_openOf 8 = .ok (.aload_n 0, 1) := dk_42 (dk_at dksX1_openOf_0 8 rfl rfl)
theorem dX1_openOf_9 : decode cX1_openOf 9 = .ok (.getfield 36, 3) := dk_180 0 36 (dk_at dksX1_openOf_0 9 rfl rfl)
theorem dX1_openOf_12 : decode cX1_openOf 12 = .ok (.iload_n 2, 1) := dk_28 (dk_at dksX1_openOf_0 12 rfl rfl)
theorem dX1_openOf_13 : decode cX1_openOf 13 = .ok (.iaload, 1) := dk_46 (dk_at dksX1_openOf_0 13 rfl rfl)
theorem dX1_openOf_14 : decode cX1_openOf 14 = .ok (.invokevirtual 250, 3) := dk_182 0 250 (dk_at dksX1_openOf_0 14 rfl rfl)
theorem dX1_openOf_17 : decode cX1_openOf 17 = .ok (.ifCond .ne 9, 3) := dk_154 0 9 (dk_at dksX1_openOf_0 17 rfl rfl)
theorem dX1_openOf_20 : decode cX1_openOf 20 = .ok (.iinc 2 1, 3) := dk_132 2 1 (dk_at dksX1_openOf_0 20 rfl rfl)
theorem dX1_openOf_23 : decode cX1_openOf 23 = .ok (.goto (-16), 3) := dk_167 255 240 (dk_at dksX1_openOf_1 0 rfl rfl)
theorem dX1_openOf_26 : decode cX1_openOf 26 = .ok (.aload_n 0, 1) := dk_42 (dk_at dksX1_openOf_1 3 rfl rfl)
theorem dX1_openOf_27 : decode cX1_openOf 27 = .ok (.getfield 36, 3) := dk_180 0 36 (dk_at dksX1_openOf_1 4 rfl rfl)
theorem dX1_openOf_30 : decode cX1_openOf 30 = .ok (.iload_n 2, 1) := dk_28 (dk_at dksX1_openOf_1 7 rfl rfl)
theorem dX1_openOf_31 : decode cX1_openOf 31 = .ok (.iaload, 1) := dk_46 (dk_at dksX1_openOf_1 8 rfl rfl)
theorem dX1_openOf_32 : decode cX1_openOf 32 = .ok (.ireturn, 1) := dk_172 (dk_at dksX1_openOf_1 9 rfl rfl)
abbrev cX1_isOpen : ByteArray := prog_5_method_7_code
def yX1_isOpen : MethodName := ⟨RX1, "isOpen", "(I)Z"⟩
def dkwX1_isOpen_0 : List UInt8 := [42, 180, 0, 48, 27, 184, 0, 219, 46, 154, 0, 7, 4, 167, 0, 4, 3, 172]
abbrev dktX1_isOpen_0 : List UInt8 := dkwX1_isOpen_0 ++ []
theorem dksX1_isOpen_0 : cX1_isOpen.data.toList.drop 0 = dktX1_isOpen_0 := by decide +kernel
theorem dX1_isOpen_0 : decode cX1_isOpen 0 = .ok (.aload_n 0, 1) := dk_42 (dk_at dksX1_isOpen_0 0 rfl rfl)
theorem dX1_isOpen_1 : decode cX1_isOpen 1 = .ok (.getfield 48, 3) := dk_180 0 48 (dk_at dksX1_isOpen_0 1 rfl rfl)
theorem dX1_isOpen_4 : decode cX1_isOpen 4 = .ok (.iload_n 1, 1) := dk_27 (dk_at dksX1_isOpen_0 4 rfl rfl)
theorem dX1_isOpen_5 : decode cX1_isOpen 5 = .ok (.invokestatic 219, 3) := dk_184 0 219 (dk_at dksX1_isOpen_0 5 rfl rfl)
theorem dX1_isOpen_8 : decode cX1_isOpen 8 = .ok (.iaload, 1) := dk_46 (dk_at dksX1_isOpen_0 8 rfl rfl)
theorem dX1_isOpen_9 : decode cX1_isOpen 9 = .ok (.ifCond .ne 7, 3) := dk_154 0 7 (dk_at dksX1_isOpen_0 9 rfl rfl)
theorem dX1_isOpen_12 : decode cX1_isOpen 12 = .ok (.iconst 1, 1) := dk_4 (dk_at dksX1_isOpen_0 12 rfl rfl)
theorem dX1_isOpen_13 : decode cX1_isOpen 13 = .ok (.goto 4, 3) := dk_167 0 4 (dk_at dksX1_isOpen_0 13 rfl rfl)
theorem dX1_isOpen_16 : decode cX1_isOpen 16 = .ok (.iconst 0, 1) := dk_3 (dk_at dksX1_isOpen_0 16 rfl rfl)
theorem dX1_isOpen_17 : decode cX1_isOpen 17 = .ok (.ireturn, 1) := dk_172 (dk_at dksX1_isOpen_0 17 rfl rfl)
abbrev cX1_set : ByteArray := prog_5_method_10_code
def yX1_set : MethodName := ⟨RX1, "set", "(II)V"⟩
def dkwX1_set_7 : List UInt8 := [21, 4, 46, 54, 4, 167, 255, 212, 42, 180, 0, 139, 154, 0, 9, 42, 29, 28, 182, 0, 226, 177]
abbrev dktX1_set_7 : List UInt8 := dkwX1_set_7 ++ []
def dkwX1_set_6 : List UInt8 := [21, 4, 46, 92, 46, 4, 96, 79, 42, 42, 180, 0, 39, 21, 4, 46, 182, 0, 202, 42, 180, 0, 42]
abbrev dktX1_set_6 : List UInt8 := dkwX1_set_6 ++ dktX1_set_7
def dkwX1_set_5 : List UInt8 := [116, 182, 0, 194, 46, 54, 4, 21, 4, 17, 252, 19, 159, 0, 42, 42, 180, 0, 22, 42, 180, 0, 39]
abbrev dktX1_set_5 : List UInt8 := dkwX1_set_5 ++ dktX1_set_6
def dkwX1_set_4 : List UInt8 := [21, 4, 46, 182, 0, 202, 42, 180, 0, 42, 21, 4, 46, 54, 4, 167, 255, 212, 42, 180, 0, 45, 42, 27]
abbrev dktX1_set_4 : List UInt8 := dkwX1_set_4 ++ dktX1_set_5
def dkwX1_set_3 : List UInt8 := [159, 0, 42, 42, 180, 0, 25, 42, 180, 0, 39, 21, 4, 46, 92, 46, 4, 96, 79, 42, 42, 180, 0, 39]
abbrev dktX1_set_3 : List UInt8 := dkwX1_set_3 ++ dktX1_set_4
def dkwX1_set_2 : List UInt8 := [96, 181, 0, 136, 27, 79, 42, 180, 0, 45, 42, 27, 182, 0, 194, 46, 54, 4, 21, 4, 17, 252, 19]
abbrev dktX1_set_2 : List UInt8 := dkwX1_set_2 ++ dktX1_set_3
def dkwX1_set_1 : List UInt8 := [29, 42, 180, 0, 139, 79, 42, 180, 0, 54, 29, 28, 79, 42, 180, 0, 66, 42, 89, 180, 0, 136, 90, 4]
abbrev dktX1_set_1 : List UInt8 := dkwX1_set_1 ++ dktX1_set_2
def dkwX1_set_0 : List UInt8 := [27, 184, 0, 219, 62, 42, 180, 0, 48, 29, 27, 158, 0, 7, 4, 167, 0, 4, 2, 79, 42, 180, 0, 51]
abbrev dktX1_set_0 : List UInt8 := dkwX1_set_0 ++ dktX1_set_1
theorem dksX1_set_0 : cX1_set.data.toList.drop 0 = dktX1_set_0 := by decide +kernel
theorem dksX1_set_1 : cX1_set.data.toList.drop 24 = dktX1_set_1 := dk_seg dksX1_set_0 24 rfl rfl
theorem dksX1_set_2 : cX1_set.data.toList.drop 48 = dktX1_set_2 := dk_seg dksX1_set_1 24 rfl rfl
theorem dksX1_set_3 : cX1_set.data.toList.drop 71 = dktX1_set_3 := dk_seg dksX1_set_2 23 rfl rfl
theorem dksX1_set_4 : cX1_set.data.toList.drop 95 = dktX1_set_4 := dk_seg dksX1_set_3 24 rfl rfl
theorem dksX1_set_5 : cX1_set.data.toList.drop 119 = dktX1_set_5 := dk_seg dksX1_set_4 24 rfl rfl
theorem dksX1_set_6 : cX1_set.data.toList.drop 142 = dktX1_set_6 := dk_seg dksX1_set_5 23 rfl rfl
theorem dksX1_set_7 : cX1_set.data.toList.drop 165 = dktX1_set_7 := dk_seg dksX1_set_6 23 rfl rfl
theorem dX1_set_0 : decode cX1_set 0 = .ok (.iload_n 1, 1) := dk_27 (dk_at dksX1_set_0 0 rfl rfl)
theorem dX1_set_1 : decode cX1_set 1 = .ok (.invokestatic 219, 3) := dk_184 0 219 (dk_at dksX1_set_0 1 rfl rfl)
theorem dX1_set_4 : decode cX1_set 4 = .ok (.istore_n 3, 1) := dk_62 (dk_at dksX1_set_0 4 rfl rfl)
theorem dX1_set_5 : decode cX1_set 5 = .ok (.aload_n 0, 1) := dk_42 (dk_at dksX1_set_0 5 rfl rfl)
theorem dX1_set_6 : decode cX1_set 6 = .ok (.getfield 48, 3) := dk_180 0 48 (dk_at dksX1_set_0 6 rfl rfl)
theorem dX1_set_9 : decode cX1_set 9 = .ok (.iload_n 3, 1) := dk_29 (dk_at dksX1_set_0 9 rfl rfl)
theorem dX1_set_10 : decode cX1_set 10 = .ok (.iload_n 1, 1) := dk_27 (dk_at dksX1_set_0 10 rfl rfl)
theorem dX1_set_11 : decode cX1_set 11 = .ok (.ifCond .le 7, 3) := dk_158 0 7 (dk_at dksX1_set_0 11 rfl rfl)
theorem dX1_set_14 : decode cX1_set 14 = .ok (.iconst 1, 1) := dk_4 (dk_at dksX1_set_0 14 rfl rfl)
theorem dX1_set_15 : decode cX1_set 15 = .ok (.goto 4, 3) := dk_167 0 4 (dk_at dksX1_set_0 15 rfl rfl)
theorem dX1_set_18 : decode cX1_set 18 = .ok (.iconst (-1), 1) := dk_2 (dk_at dksX1_set_0 18 rfl rfl)
theorem dX1_set_19 : decode cX1_set 19 = .ok (.iastore, 1) := dk_79 (dk_at dksX1_set_0 19 rfl rfl)
theorem dX1_set_20 : decode cX1_set 20 = .ok (.aload_n 0, 1) := dk_42 (dk_at dksX1_set_0 20 rfl rfl)
theorem dX1_set_21 : decode cX1_set 21 = .ok (.getfield 51, 3) := dk_180 0 51 (dk_at dksX1_set_0 21 rfl rfl)
theorem dX1_set_24 : decode cX1_set 24 = .ok (.iload_n 3, 1) := dk_29 (dk_at dksX1_set_1 0 rfl rfl)
theorem dX1_set_25 : decode cX1_set 25 = .ok (.aload_n 0, 1) := dk_42 (dk_at dksX1_set_1 1 rfl rfl)
theorem dX1_set_26 : decode cX1_set 26 = .ok (.getfield 139, 3) := dk_180 0 139 (dk_at dksX1_set_1 2 rfl rfl)
theorem dX1_set_29 : decode cX1_set 29 = .ok (.iastore, 1) := dk_79 (dk_at dksX1_set_1 5 rfl rfl)
theorem dX1_set_30 : decode cX1_set 30 = .ok (.aload_n 0, 1) := dk_42 (dk_at dksX1_set_1 6 rfl rfl)
theorem dX1_set_31 : decode cX1_set 31 = .ok (.getfield 54, 3) := dk_180 0 54 (dk_at dksX1_set_1 7 rfl rfl)
theorem dX1_set_34 : decode cX1_set 34 = .ok (.iload_n 3, 1) := dk_29 (dk_at dksX1_set_1 10 rfl rfl)
theorem dX1_set_35 : decode cX1_set 35 = .ok (.iload_n 2, 1) := dk_28 (dk_at dksX1_set_1 11 rfl rfl)
theorem dX1_set_36 : decode cX1_set 36 = .ok (.iastore, 1) := dk_79 (dk_at dksX1_set_1 12 rfl rfl)
theorem dX1_set_37 : decode cX1_set 37 = .ok (.aload_n 0, 1) := dk_42 (dk_at dksX1_set_1 13 rfl rfl)
theorem dX1_set_38 : decode cX1_set 38 = .ok (.getfield 66, 3) := dk_180 0 66 (dk_at dksX1_set_1 14 rfl rfl)
theorem dX1_set_41 : decode cX1_set 41 = .ok (.aload_n 0, 1) := dk_42 (dk_at dksX1_set_1 17 rfl rfl)
theorem dX1_set_42 : decode cX1_set 42 = .ok (.dup, 1) := dk_89 (dk_at dksX1_set_1 18 rfl rfl)
theorem dX1_set_43 : decode cX1_set 43 = .ok (.getfield 136, 3) := dk_180 0 136 (dk_at dksX1_set_1 19 rfl rfl)
theorem dX1_set_46 : decode cX1_set 46 = .ok (.dup_x1, 1) := dk_90 (dk_at dksX1_set_1 22 rfl rfl)
theorem dX1_set_47 : decode cX1_set 47 = .ok (.iconst 1, 1) := dk_4 (dk_at dksX1_set_1 23 rfl rfl)
theorem dX1_set_48 : decode cX1_set 48 = .ok (.iadd, 1) := dk_96 (dk_at dksX1_set_2 0 rfl rfl)
theorem dX1_set_49 : decode cX1_set 49 = .ok (.putfield 136, 3) := dk_181 0 136 (dk_at dksX1_set_2 1 rfl rfl)
theorem dX1_set_52 : decode cX1_set 52 = .ok (.iload_n 1, 1) := dk_27 (dk_at dksX1_set_2 4 rfl rfl)
theorem dX1_set_53 : decode cX1_set 53 = .ok (.iastore, 1) := dk_79 (dk_at dksX1_set_2 5 rfl rfl)
theorem dX1_set_54 : decode cX1_set 54 = .ok (.aload_n 0, 1) := dk_42 (dk_at dksX1_set_2 6 rfl rfl)
theorem dX1_set_55 : decode cX1_set 55 = .ok (.getfield 45, 3) := dk_180 0 45 (dk_at dksX1_set_2 7 rfl rfl)
theorem dX1_set_58 : decode cX1_set 58 = .ok (.aload_n 0, 1) := dk_42 (dk_at dksX1_set_2 10 rfl rfl)
theorem dX1_set_59 : decode cX1_set 59 = .ok (.iload_n 1, 1) := dk_27 (dk_at dksX1_set_2 11 rfl rfl)
theorem dX1_set_60 : decode cX1_set 60 = .ok (.invokevirtual 194, 3) := dk_182 0 194 (dk_at dksX1_set_2 12 rfl rfl)
theorem dX1_set_63 : decode cX1_set 63 = .ok (.iaload, 1) := dk_46 (dk_at dksX1_set_2 15 rfl rfl)
theorem dX1_set_64 : decode cX1_set 64 = .ok (.istore 4, 2) := dk_54 4 (dk_at dksX1_set_2 16 rfl rfl)
theorem dX1_set_66 : decode cX1_set 66 = .ok (.iload 4, 2) := dk_21 4 (dk_at dksX1_set_2 18 rfl rfl)
theorem dX1_set_68 : decode cX1_set 68 = .ok (.sipush (-1005), 3) := dk_17 252 19 (dk_at dksX1_set_2 20 rfl rfl)
theorem dX1_set_71 : decode cX1_set 71 = .ok (.if_icmp .eq 42, 3) := dk_159 0 42 (dk_at dksX1_set_3 0 rfl rfl)
theorem dX1_set_74 : decode cX1_set 74 = .ok (.aload_n 0, 1) := dk_42 (dk_at dksX1_set_3 3 rfl rfl)
theorem dX1_set_75 : decode cX1_set 75 = .ok (.getfield 25, 3) := dk_180 0 25 (dk_at dksX1_set_3 4 rfl rfl)
theorem dX1_set_78 : decode cX1_set 78 = .ok (.aload_n 0, 1) := dk_42 (dk_at dksX1_set_3 7 rfl rfl)
theorem dX1_set_79 : decode cX1_set 79 = .ok (.getfield 39, 3) := dk_180 0 39 (dk_at dksX1_set_3 8 rfl rfl)
theorem dX1_set_82 : decode cX1_set 82 = .ok (.iload 4, 2) := dk_21 4 (dk_at dksX1_set_3 11 rfl rfl)
theorem dX1_set_84 : decode cX1_set 84 = .ok (.iaload, 1) := dk_46 (dk_at dksX1_set_3 13 rfl rfl)
theorem dX1_set_85 : decode cX1_set 85 = .ok (.dup2, 1) := dk_92 (dk_at dksX1_set_3 14 rfl rfl)
theorem dX1_set_86 : decode cX1_set 86 = .ok (.iaload, 1) := dk_46 (dk_at dksX1_set_3 15 rfl rfl)
theorem dX1_set_87 : decode cX1_set 87 = .ok (.iconst 1, 1) := dk_4 (dk_at dksX1_set_3 16 rfl rfl)
theorem dX1_set_88 : decode cX1_set 88 = .ok (.iadd, 1) := dk_96 (dk_at dksX1_set_3 17 rfl rfl)
theorem dX1_set_89 : decode cX1_set 89 = .ok (.iastore, 1) := dk_79 (dk_at dksX1_set_3 18 rfl rfl)
theorem dX1_set_90 : decode cX1_set 90 = .ok (.aload_n 0, 1) := dk_42 (dk_at dksX1_set_3 19 rfl rfl)
theorem dX1_set_91 : decode cX1_set 91 = .ok (.aload_n 0, 1) := dk_42 (dk_at dksX1_set_3 20 rfl rfl)
theorem dX1_set_92 : decode cX1_set 92 = .ok (.getfield 39, 3) := dk_180 0 39 (dk_at dksX1_set_3 21 rfl rfl)
theorem dX1_set_95 : decode cX1_set 95 = .ok (.iload 4, 2) := dk_21 4 (dk_at dksX1_set_4 0 rfl rfl)
theorem dX1_set_97 : decode cX1_set 97 = .ok (.iaload, 1) := dk_46 (dk_at dksX1_set_4 2 rfl rfl)
theorem dX1_set_98 : decode cX1_set 98 = .ok (.invokevirtual 202, 3) := dk_182 0 202 (dk_at dksX1_set_4 3 rfl rfl)
theorem dX1_set_101 : decode cX1_set 101 = .ok (.aload_n 0, 1) := dk_42 (dk_at dksX1_set_4 6 rfl rfl)
theorem dX1_set_102 : decode cX1_set 102 = .ok (.getfield 42, 3) := dk_180 0 42 (dk_at dksX1_set_4 7 rfl rfl)
theorem dX1_set_105 : decode cX1_set 105 = .ok (.iload 4, 2) := dk_21 4 (dk_at dksX1_set_4 10 rfl rfl)
theorem dX1_set_107 : decode cX1_set 107 = .ok (.iaload, 1) := dk_46 (dk_at dksX1_set_4 12 rfl rfl)
theorem dX1_set_108 : decode cX1_set 108 = .ok (.istore 4, 2) := dk_54 4 (dk_at dksX1_set_4 13 rfl rfl)
theorem dX1_set_110 : decode cX1_set 110 = .ok (.goto (-44), 3) := dk_167 255 212 (dk_at dksX1_set_4 15 rfl rfl)
theorem dX1_set_113 : decode cX1_set 113 = .ok (.aload_n 0, 1) := dk_42 (dk_at dksX1_set_4 18 rfl rfl)
theorem dX1_set_114 : decode cX1_set 114 = .ok (.getfield 45, 3) := dk_180 0 45 (dk_at dksX1_set_4 19 rfl rfl)
theorem dX1_set_117 : decode cX1_set 117 = .ok (.aload_n 0, 1) := dk_42 (dk_at dksX1_set_4 22 rfl rfl)
theorem dX1_set_118 : decode cX1_set 118 = .ok (.iload_n 1, 1) := dk_27 (dk_at dksX1_set_4 23 rfl rfl)
theorem dX1_set_119 : decode cX1_set 119 = .ok (.ineg, 1) := dk_116 (dk_at dksX1_set_5 0 rfl rfl)
theorem dX1_set_120 : decode cX1_set 120 = .ok (.invokevirtual 194, 3) := dk_182 0 194 (dk_at dksX1_set_5 1 rfl rfl)
theorem dX1_set_123 : decode cX1_set 123 = .ok (.iaload, 1) := dk_46 (dk_at dksX1_set_5 4 rfl rfl)
theorem dX1_set_124 : decode cX1_set 124 = .ok (.istore 4, 2) := dk_54 4 (dk_at dksX1_set_5 5 rfl rfl)
theorem dX1_set_126 : decode cX1_set 126 = .ok (.iload 4, 2) := dk_21 4 (dk_at dksX1_set_5 7 rfl rfl)
theorem dX1_set_128 : decode cX1_set 128 = .ok (.sipush (-1005), 3) := dk_17 252 19 (dk_at dksX1_set_5 9 rfl rfl)
theorem dX1_set_131 : decode cX1_set 131 = .ok (.if_icmp .eq 42, 3) := dk_159 0 42 (dk_at dksX1_set_5 12 rfl rfl)
theorem dX1_set_134 : decode cX1_set 134 = .ok (.aload_n 0, 1) := dk_42 (dk_at dksX1_set_5 15 rfl rfl)
theorem dX1_set_135 : decode cX1_set 135 = .ok (.getfield 22, 3) := dk_180 0 22 (dk_at dksX1_set_5 16 rfl rfl)
theorem dX1_set_138 : decode cX1_set 138 = .ok (.aload_n 0, 1) := dk_42 (dk_at dksX1_set_5 19 rfl rfl)
theorem dX1_set_139 : decode cX1_set 139 = .ok (.getfield 39, 3) := dk_180 0 39 (dk_at dksX1_set_5 20 rfl rfl)
theorem dX1_set_142 : decode cX1_set 142 = .ok (.iload 4, 2) := dk_21 4 (dk_at dksX1_set_6 0 rfl rfl)
theorem dX1_set_144 : decode cX1_set 144 = .ok (.iaload, 1) := dk_46 (dk_at dksX1_set_6 2 rfl rfl)
theorem dX1_set_145 : decode cX1_set 145 = .ok (.dup2, 1) := dk_92 (dk_at dksX1_set_6 3 rfl rfl)
theorem dX1_set_146 : decode cX1_set 146 = .ok (.iaload, 1) := dk_46 (dk_at dksX1_set_6 4 rfl rfl)
theorem dX1_set_147 : decode cX1_set 147 = .ok (.iconst 1, 1) := dk_4 (dk_at dksX1_set_6 5 rfl rfl)
theorem dX1_set_148 : decode cX1_set 148 = .ok (.iadd, 1) := dk_96 (dk_at dksX1_set_6 6 rfl rfl)
theorem dX1_set_149 : decode cX1_set 149 = .ok (.iastore, 1) := dk_79 (dk_at dksX1_set_6 7 rfl rfl)
theorem dX1_set_150 : decode cX1_set 150 = .ok (.aload_n 0, 1) := dk_42 (dk_at dksX1_set_6 8 rfl rfl)
theorem dX1_set_151 : decode cX1_set 151 = .ok (.aload_n 0, 1) := dk_42 (dk_at dksX1_set_6 9 rfl rfl)
theorem dX1_set_152 : decode cX1_set 152 = .ok (.getfield 39, 3) := dk_180 0 39 (dk_at dksX1_set_6 10 rfl rfl)
theorem dX1_set_155 : decode cX1_set 155 = .ok (.iload 4, 2) := dk_21 4 (dk_at dksX1_set_6 13 rfl rfl)
theorem dX1_set_157 : decode cX1_set 157 = .ok (.iaload, 1) := dk_46 (dk_at dksX1_set_6 15 rfl rfl)
theorem dX1_set_158 : decode cX1_set 158 = .ok (.invokevirtual 202, 3) := dk_182 0 202 (dk_at dksX1_set_6 16 rfl rfl)
theorem dX1_set_161 : decode cX1_set 161 = .ok (.aload_n 0, 1) := dk_42 (dk_at dksX1_set_6 19 rfl rfl)
theorem dX1_set_162 : decode cX1_set 162 = .ok (.getfield 42, 3) := dk_180 0 42 (dk_at dksX1_set_6 20 rfl rfl)
theorem dX1_set_165 : decode cX1_set 165 = .ok (.iload 4, 2) := dk_21 4 (dk_at dksX1_set_7 0 rfl rfl)
theorem dX1_set_167 : decode cX1_set 167 = .ok (.iaload, 1) := dk_46 (dk_at dksX1_set_7 2 rfl rfl)
theorem dX1_set_168 : decode cX1_set 168 = .ok (.istore 4, 2) := dk_54 4 (dk_at dksX1_set_7 3 rfl rfl)
theorem dX1_set_170 : decode cX1_set 170 = .ok (.goto (-44), 3) := dk_167 255 212 (dk_at dksX1_set_7 5 rfl rfl)
theorem dX1_set_173 : decode cX1_set 173 = .ok (.aload_n 0, 1) := dk_42 (dk_at dksX1_set_7 8 rfl rfl)
theorem dX1_set_174 : decode cX1_set 174 = .ok (.getfield 139, 3) := dk_180 0 139 (dk_at dksX1_set_7 9 rfl rfl)
theorem dX1_set_177 : decode cX1_set 177 = .ok (.ifCond .ne 9, 3) := dk_154 0 9 (dk_at dksX1_set_7 12 rfl rfl)
theorem dX1_set_180 : decode cX1_set 180 = .ok (.aload_n 0, 1) := dk_42 (dk_at dksX1_set_7 15 rfl rfl)
theorem dX1_set_181 : decode cX1_set 181 = .ok (.iload_n 3, 1) := dk_29 (dk_at dksX1_set_7 16 rfl rfl)
theorem dX1_set_182 : decode cX1_set 182 = .ok (.iload_n 2, 1) := dk_28 (dk_at dksX1_set_7 17 rfl rfl)
theorem dX1_set_183 : decode cX1_set 183 = .ok (.invokevirtual 226, 3) := dk_182 0 226 (dk_at dksX1_set_7 18 rfl rfl)
theorem dX1_set_186 : decode cX1_set 186 = .ok (.return_, 1) := dk_177 (dk_at dksX1_set_7 21 rfl rfl)
abbrev cX1_rootSource : ByteArray := prog_5_method_11_code
def yX1_rootSource : MethodName := ⟨RX1, "rootSource", "(II)V"⟩
def dkwX1_rootSource_4 : List UInt8 := [182, 0, 234, 132, 3, 1, 167, 255, 205, 177]
abbrev dktX1_rootSource_4 : List UInt8 := dkwX1_rootSource_4 ++ []
def dkwX1_rootSource_3 : List UInt8 := [184, 0, 219, 54, 4, 21, 4, 27, 159, 0, 17, 42, 42, 180, 0, 63, 27, 16, 8, 104, 21, 4]
abbrev dktX1_rootSource_3 : List UInt8 := dkwX1_rootSource_3 ++ dktX1_rootSource_4
def dkwX1_rootSource_2 : List UInt8 := [42, 180, 0, 15, 28, 46, 42, 180, 0, 19, 28, 46, 96, 162, 0, 40, 42, 180, 0, 36, 29, 46]
abbrev dktX1_rootSource_2 : List UInt8 := dkwX1_rootSource_2 ++ dktX1_rootSource_3
def dkwX1_rootSource_1 : List UInt8 := [167, 255, 235, 42, 42, 180, 0, 63, 27, 16, 8, 104, 28, 182, 0, 230, 42, 180, 0, 15, 28, 46, 62, 29]
abbrev dktX1_rootSource_1 : List UInt8 := dkwX1_rootSource_1 ++ dktX1_rootSource_2
def dkwX1_rootSource_0 : List UInt8 := [3, 62, 29, 16, 8, 162, 0, 21, 42, 180, 0, 63, 27, 16, 8, 104, 29, 96, 9, 80, 132, 3, 1]
abbrev dktX1_rootSource_0 : List UInt8 := dkwX1_rootSource_0 ++ dktX1_rootSource_1
theorem dksX1_rootSource_0 : cX1_rootSource.data.toList.drop 0 = dktX1_rootSource_0 := by decide +kernel
theorem dksX1_rootSource_1 : cX1_rootSource.data.toList.drop 23 = dktX1_rootSource_1 := dk_seg dksX1_rootSource_0 23 rfl rfl
theorem dksX1_rootSource_2 : cX1_rootSource.data.toList.drop 47 = dktX1_rootSource_2 := dk_seg dksX1_rootSource_1 24 rfl rfl
theorem dksX1_rootSource_3 : cX1_rootSource.data.toList.drop 69 = dktX1_rootSource_3 := dk_seg dksX1_rootSource_2 22 rfl rfl
theorem dksX1_rootSource_4 : cX1_rootSource.data.toList.drop 91 = dktX1_rootSource_4 := dk_seg dksX1_rootSource_3 22 rfl rfl
theorem dX1_rootSource_0 : decode cX1_rootSource 0 = .ok (.iconst 0, 1) := dk_3 (dk_at dksX1_rootSource_0 0 rfl rfl)
theorem dX1_rootSource_1 : decode cX1_rootSource 1 = .ok (.istore_n 3, 1) := dk_62 (dk_at dksX1_rootSource_0 1 rfl rfl)
theorem dX1_rootSource_2 : decode cX1_rootSource 2 = .ok (.iload_n 3, 1) := dk_29 (dk_at dksX1_rootSource_0 2 rfl rfl)
theorem dX1_rootSource_3 : decode cX1_rootSource 3 = .ok (.bipush 8, 2) := dk_16 8 (dk_at dksX1_rootSource_0 3 rfl rfl)
theorem dX1_rootSource_5 : decode cX1_rootSource 5 = .ok (.if_icmp .ge 21, 3) := dk_162 0 21 (dk_at dksX1_rootSource_0 5 rfl rfl)
theorem dX1_rootSource_8 : decode cX1_rootSource 8 = .ok (.aload_n 0, 1) := dk_42 (dk_at dksX1_rootSource_0 8 rfl rfl)
theorem dX1_rootSource_9 : decode cX1_rootSource 9 = .ok (.getfield 63, 3) := dk_180 0 63 (dk_at dksX1_rootSource_0 9 rfl rfl)
theorem dX1_rootSource_12 : decode cX1_rootSource 12 = .ok (.iload_n 1, 1) := dk_27 (dk_at dksX1_rootSource_0 12 rfl rfl)
theorem dX1_rootSource_13 : decode cX1_rootSource 13 = .ok (.bipush 8, 2) := dk_16 8 (dk_at dksX1_rootSource_0 13 rfl rfl)
theorem dX1_rootSource_15 : decode cX1_rootSource 15 = .ok (.imul, 1) := dk_104 (dk_at dksX1_rootSource_0 15 rfl rfl)
theorem dX1_rootSource_16 : decode cX1_rootSource 16 = .ok (.iload_n 3, 1) := dk_29 (dk_at dksX1_rootSource_0 16 rfl rfl)
theorem dX1_rootSource_17 : decode cX1_rootSource 17 = .ok (.iadd, 1) := dk_96 (dk_at dksX1_rootSource_0 17 rfl rfl)
theorem dX1_rootSource_18 : decode cX1_rootSource 18 = .ok (.lconst 0, 1) := dk_9 (dk_at dksX1_rootSource_0 18 rfl rfl)
theorem dX1_rootSource_19 : decode cX1_rootSource 19 = .ok (.lastore, 1) := dk_80 (dk_at dksX1_rootSource_0 19 rfl rfl)
theorem dX1_rootSource_20 : decode cX1_rootSource 20 = .ok (.iinc 3 1, 3) := dk_132 3 1 (dk_at dksX1_rootSource_0 20 rfl rfl)
theorem dX1_rootSource_23 : decode cX1_rootSource 23 = .ok (.goto (-21), 3) := dk_167 255 235 (dk_at dksX1_rootSource_1 0 rfl rfl)
theorem dX1_rootSource_26 : decode cX1_rootSource 26 = .ok (.aload_n 0, 1) := dk_42 (dk_at dksX1_rootSource_1 3 rfl rfl)
theorem dX1_rootSource_27 : decode cX1_rootSource 27 = .ok (.aload_n 0, 1) := dk_42 (dk_at dksX1_rootSource_1 4 rfl rfl)
theorem dX1_rootSource_28 : decode cX1_rootSource 28 = .ok (.getfield 63, 3) := dk_180 0 63 (dk_at dksX1_rootSource_1 5 rfl rfl)
theorem dX1_rootSource_31 : decode cX1_rootSource 31 = .ok (.iload_n 1, 1) := dk_27 (dk_at dksX1_rootSource_1 8 rfl rfl)
theorem dX1_rootSource_32 : decode cX1_rootSource 32 = .ok (.bipush 8, 2) := dk_16 8 (dk_at dksX1_rootSource_1 9 rfl rfl)
theorem dX1_rootSource_34 : decode cX1_rootSource 34 = .ok (.imul, 1) := dk_104 (dk_at dksX1_rootSource_1 11 rfl rfl)
theorem dX1_rootSource_35 : decode cX1_rootSource 35 = .ok (.iload_n 2, 1) := dk_28 (dk_at dksX1_rootSource_1 12 rfl rfl)
theorem dX1_rootSource_36 : decode cX1_rootSource 36 = .ok (.invokevirtual 230, 3) := dk_182 0 230 (dk_at dksX1_rootSource_1 13 rfl rfl)
theorem dX1_rootSource_39 : decode cX1_rootSource 39 = .ok (.aload_n 0, 1) := dk_42 (dk_at dksX1_rootSource_1 16 rfl rfl)
theorem dX1_rootSource_40 : decode cX1_rootSource 40 = .ok (.getfield 15, 3) := dk_180 0 15 (dk_at dksX1_rootSource_1 17 rfl rfl)
theorem dX1_rootSource_43 : decode cX1_rootSource 43 = .ok (.iload_n 2, 1) := dk_28 (dk_at dksX1_rootSource_1 20 rfl rfl)
theorem dX1_rootSource_44 : decode cX1_rootSource 44 = .ok (.iaload, 1) := dk_46 (dk_at dksX1_rootSource_1 21 rfl rfl)
theorem dX1_rootSource_45 : decode cX1_rootSource 45 = .ok (.istore_n 3, 1) := dk_62 (dk_at dksX1_rootSource_1 22 rfl rfl)
theorem dX1_rootSource_46 : decode cX1_rootSource 46 = .ok (.iload_n 3, 1) := dk_29 (dk_at dksX1_rootSource_1 23 rfl rfl)
theorem dX1_rootSource_47 : decode cX1_rootSource 47 = .ok (.aload_n 0, 1) := dk_42 (dk_at dksX1_rootSource_2 0 rfl rfl)
theorem dX1_rootSource_48 : decode cX1_rootSource 48 = .ok (.getfield 15, 3) := dk_180 0 15 (dk_at dksX1_rootSource_2 1 rfl rfl)
theorem dX1_rootSource_51 : decode cX1_rootSource 51 = .ok (.iload_n 2, 1) := dk_28 (dk_at dksX1_rootSource_2 4 rfl rfl)
theorem dX1_rootSource_52 : decode cX1_rootSource 52 = .ok (.iaload, 1) := dk_46 (dk_at dksX1_rootSource_2 5 rfl rfl)
theorem dX1_rootSource_53 : decode cX1_rootSource 53 = .ok (.aload_n 0, 1) := dk_42 (dk_at dksX1_rootSource_2 6 rfl rfl)
theorem dX1_rootSource_54 : decode cX1_rootSource 54 = .ok (.getfield 19, 3) := dk_180 0 19 (dk_at dksX1_rootSource_2 7 rfl rfl)
theorem dX1_rootSource_57 : decode cX1_rootSource 57 = .ok (.iload_n 2, 1) := dk_28 (dk_at dksX1_rootSource_2 10 rfl rfl)
theorem dX1_rootSource_58 : decode cX1_rootSource 58 = .ok (.iaload, 1) := dk_46 (dk_at dksX1_rootSource_2 11 rfl rfl)
theorem dX1_rootSource_59 : decode cX1_rootSource 59 = .ok (.iadd, 1) := dk_96 (dk_at dksX1_rootSource_2 12 rfl rfl)
theorem dX1_rootSource_60 : decode cX1_rootSource 60 = .ok (.if_icmp .ge 40, 3) := dk_162 0 40 (dk_at dksX1_rootSource_2 13 rfl rfl)
theorem dX1_rootSource_63 : decode cX1_rootSource 63 = .ok (.aload_n 0, 1) := dk_42 (dk_at dksX1_rootSource_2 16 rfl rfl)
theorem dX1_rootSource_64 : decode cX1_rootSource 64 = .ok (.getfield 36, 3) := dk_180 0 36 (dk_at dksX1_rootSource_2 17 rfl rfl)
theorem dX1_rootSource_67 : decode cX1_rootSource 67 = .ok (.iload_n 3, 1) := dk_29 (dk_at dksX1_rootSource_2 20 rfl rfl)
theorem dX1_rootSource_68 : decode cX1_rootSource 68 = .ok (.iaload, 1) := dk_46 (dk_at dksX1_rootSource_2 21 rfl rfl)
theorem dX1_rootSource_69 : decode cX1_rootSource 69 = .ok (.invokestatic 219, 3) := dk_184 0 219 (dk_at dksX1_rootSource_3 0 rfl rfl)
theorem dX1_rootSource_72 : decode cX1_rootSource 72 = .ok (.istore 4, 2) := dk_54 4 (dk_at dksX1_rootSource_3 3 rfl rfl)
theorem dX1_rootSource_74 : decode cX1_rootSource 74 = .ok (.iload 4, 2) := dk_21 4 (dk_at dksX1_rootSource_3 5 rfl rfl)
theorem dX1_rootSource_76 : decode cX1_rootSource 76 = .ok (.iload_n 1, 1) := dk_27 (dk_at dksX1_rootSource_3 7 rfl rfl)
theorem dX1_rootSource_77 : decode cX1_rootSource 77 = .ok (.if_icmp .eq 17, 3) := dk_159 0 17 (dk_at dksX1_rootSource_3 8 rfl rfl)
theorem dX1_rootSource_80 : decode cX1_rootSource 80 = .ok (.aload_n 0, 1) := dk_42 (dk_at dksX1_rootSource_3 11 rfl rfl)
theorem dX1_rootSource_81 : decode cX1_rootSource 81 = .ok (.aload_n 0, 1) := dk_42 (dk_at dksX1_rootSource_3 12 rfl rfl)
theorem dX1_rootSource_82 : decode cX1_rootSource 82 = .ok (.getfield 63, 3) := dk_180 0 63 (dk_at dksX1_rootSource_3 13 rfl rfl)
theorem dX1_rootSource_85 : decode cX1_rootSource 85 = .ok (.iload_n 1, 1) := dk_27 (dk_at dksX1_rootSource_3 16 rfl rfl)
theorem dX1_rootSource_86 : decode cX1_rootSource 86 = .ok (.bipush 8, 2) := dk_16 8 (dk_at dksX1_rootSource_3 17 rfl rfl)
theorem dX1_rootSource_88 : decode cX1_rootSource 88 = .ok (.imul, 1) := dk_104 (dk_at dksX1_rootSource_3 19 rfl rfl)
theorem dX1_rootSource_89 : decode cX1_rootSource 89 = .ok (.iload 4, 2) := dk_21 4 (dk_at dksX1_rootSource_3 20 rfl rfl)
theorem dX1_rootSource_91 : decode cX1_rootSource 91 = .ok (.invokevirtual 234, 3) := dk_182 0 234 (dk_at dksX1_rootSource_4 0 rfl rfl)
theorem dX1_rootSource_94 : decode cX1_rootSource 94 = .ok (.iinc 3 1, 3) := dk_132 3 1 (dk_at dksX1_rootSource_4 3 rfl rfl)
theorem dX1_rootSource_97 : decode cX1_rootSource 97 = .ok (.goto (-51), 3) := dk_167 255 205 (dk_at dksX1_rootSource_4 6 rfl rfl)
theorem dX1_rootSource_100 : decode cX1_rootSource 100 = .ok (.return_, 1) := dk_177 (dk_at dksX1_rootSource_4 9 rfl rfl)
abbrev cX1_addSource : ByteArray := prog_5_method_13_code
def yX1_addSource : MethodName := ⟨RX1, "addSource", "([JII)V"⟩
def dkwX1_addSource_3 : List UInt8 := [167, 255, 221, 177]
abbrev dktX1_addSource_3 : List UInt8 := dkwX1_addSource_3 ++ []
def dkwX1_addSource_2 : List UInt8 := [96, 92, 47, 42, 180, 0, 72, 29, 17, 2, 52, 100, 16, 8, 104, 21, 4, 96, 47, 129, 80, 132, 4, 1]
abbrev dktX1_addSource_2 : List UInt8 := dkwX1_addSource_2 ++ dktX1_addSource_3
def dkwX1_addSource_1 : List UInt8 := [167, 0, 51, 29, 17, 2, 52, 161, 0, 44, 3, 54, 4, 21, 4, 16, 8, 162, 0, 34, 43, 28, 21, 4]
abbrev dktX1_addSource_1 : List UInt8 := dkwX1_addSource_1 ++ dktX1_addSource_2
def dkwX1_addSource_0 : List UInt8 := [29, 17, 1, 244, 162, 0, 23, 43, 28, 29, 16, 6, 122, 96, 92, 47, 10, 29, 16, 63, 126, 121, 129, 80]
abbrev dktX1_addSource_0 : List UInt8 := dkwX1_addSource_0 ++ dktX1_addSource_1
theorem dksX1_addSource_0 : cX1_addSource.data.toList.drop 0 = dktX1_addSource_0 := by decide +kernel
theorem dksX1_addSource_1 : cX1_addSource.data.toList.drop 24 = dktX1_addSource_1 := dk_seg dksX1_addSource_0 24 rfl rfl
theorem dksX1_addSource_2 : cX1_addSource.data.toList.drop 48 = dktX1_addSource_2 := dk_seg dksX1_addSource_1 24 rfl rfl
theorem dksX1_addSource_3 : cX1_addSource.data.toList.drop 72 = dktX1_addSource_3 := dk_seg dksX1_addSource_2 24 rfl rfl
theorem dX1_addSource_0 : decode cX1_addSource 0 = .ok (.iload_n 3, 1) := dk_29 (dk_at dksX1_addSource_0 0 rfl rfl)
theorem dX1_addSource_1 : decode cX1_addSource 1 = .ok (.sipush 500, 3) := dk_17 1 244 (dk_at dksX1_addSource_0 1 rfl rfl)
theorem dX1_addSource_4 : decode cX1_addSource 4 = .ok (.if_icmp .ge 23, 3) := dk_162 0 23 (dk_at dksX1_addSource_0 4 rfl rfl)
theorem dX1_addSource_7 : decode cX1_addSource 7 = .ok (.aload_n 1, 1) := dk_43 (dk_at dksX1_addSource_0 7 rfl rfl)
theorem dX1_addSource_8 : decode cX1_addSource 8 = .ok (.iload_n 2, 1) := dk_28 (dk_at dksX1_addSource_0 8 rfl rfl)
theorem dX1_addSource_9 : decode cX1_addSource 9 = .ok (.iload_n 3, 1) := dk_29 (dk_at dksX1_addSource_0 9 rfl rfl)
theorem dX1_addSource_10 : decode cX1_addSource 10 = .ok (.bipush 6, 2) := dk_16 6 (dk_at dksX1_addSource_0 10 rfl rfl)
theorem dX1_addSource_12 : decode cX1_addSource 12 = .ok (.ishr, 1) := dk_122 (dk_at dksX1_addSource_0 12 rfl rfl)
theorem dX1_addSource_13 : decode cX1_addSource 13 = .ok (.iadd, 1) := dk_96 (dk_at dksX1_addSource_0 13 rfl rfl)
theorem dX1_addSource_14 : decode cX1_addSource 14 = .ok (.dup2, 1) := dk_92 (dk_at dksX1_addSource_0 14 rfl rfl)
theorem dX1_addSource_15 : decode cX1_addSource 15 = .ok (.laload, 1) := dk_47 (dk_at dksX1_addSource_0 15 rfl rfl)
theorem dX1_addSource_16 : decode cX1_addSource 16 = .ok (.lconst 1, 1) := dk_10 (dk_at dksX1_addSource_0 16 rfl rfl)
theorem dX1_addSource_17 : decode cX1_addSource 17 = .ok (.iload_n 3, 1) := dk_29 (dk_at dksX1_addSource_0 17 rfl rfl)
theorem dX1_addSource_18 : decode cX1_addSource 18 = .ok (.bipush 63, 2) := dk_16 63 (dk_at dksX1_addSource_0 18 rfl rfl)
theorem dX1_addSource_20 : decode cX1_addSource 20 = .ok (.iand, 1) := dk_126 (dk_at dksX1_addSource_0 20 rfl rfl)
theorem dX1_addSource_21 : decode cX1_addSource 21 = .ok (.lshl, 1) := dk_121 (dk_at dksX1_addSource_0 21 rfl rfl)
theorem dX1_addSource_22 : decode cX1_addSource 22 = .ok (.lor, 1) := dk_129 (dk_at dksX1_addSource_0 22 rfl rfl)
theorem dX1_addSource_23 : decode cX1_addSource 23 = .ok (.lastore, 1) := dk_80 (dk_at dksX1_addSource_0 23 rfl rfl)
theorem dX1_addSource_24 : decode cX1_addSource 24 = .ok (.goto 51, 3) := dk_167 0 51 (dk_at dksX1_addSource_1 0 rfl rfl)
theorem dX1_addSource_27 : decode cX1_addSource 27 = .ok (.iload_n 3, 1) := dk_29 (dk_at dksX1_addSource_1 3 rfl rfl)
theorem dX1_addSource_28 : decode cX1_addSource 28 = .ok (.sipush 564, 3) := dk_17 2 52 (dk_at dksX1_addSource_1 4 rfl rfl)
theorem dX1_addSource_31 : decode cX1_addSource 31 = .ok (.if_icmp .lt 44, 3) := dk_161 0 44 (dk_at dksX1_addSource_1 7 rfl rfl)
theorem dX1_addSource_34 : decode cX1_addSource 34 = .ok (.iconst 0, 1) := dk_3 (dk_at dksX1_addSource_1 10 rfl rfl)
theorem dX1_addSource_35 : decode cX1_addSource 35 = .ok (.istore 4, 2) := dk_54 4 (dk_at dksX1_addSource_1 11 rfl rfl)
theorem dX1_addSource_37 : decode cX1_addSource 37 = .ok (.iload 4, 2) := dk_21 4 (dk_at dksX1_addSource_1 13 rfl rfl)
theorem dX1_addSource_39 : decode cX1_addSource 39 = .ok (.bipush 8, 2) := dk_16 8 (dk_at dksX1_addSource_1 15 rfl rfl)
theorem dX1_addSource_41 : decode cX1_addSource 41 = .ok (.if_icmp .ge 34, 3) := dk_162 0 34 (dk_at dksX1_addSource_1 17 rfl rfl)
theorem dX1_addSource_44 : decode cX1_addSource 44 = .ok (.aload_n 1, 1) := dk_43 (dk_at dksX1_addSource_1 20 rfl rfl)
theorem dX1_addSource_45 : decode cX1_addSource 45 = .ok (.iload_n 2, 1) := dk_28 (dk_at dksX1_addSource_1 21 rfl rfl)
theorem dX1_addSource_46 : decode cX1_addSource 46 = .ok (.iload 4, 2) := dk_21 4 (dk_at dksX1_addSource_1 22 rfl rfl)
theorem dX1_addSource_48 : decode cX1_addSource 48 = .ok (.iadd, 1) := dk_96 (dk_at dksX1_addSource_2 0 rfl rfl)
theorem dX1_addSource_49 : decode cX1_addSource 49 = .ok (.dup2, 1) := dk_92 (dk_at dksX1_addSource_2 1 rfl rfl)
theorem dX1_addSource_50 : decode cX1_addSource 50 = .ok (.laload, 1) := dk_47 (dk_at dksX1_addSource_2 2 rfl rfl)
theorem dX1_addSource_51 : decode cX1_addSource 51 = .ok (.aload_n 0, 1) := dk_42 (dk_at dksX1_addSource_2 3 rfl rfl)
theorem dX1_addSource_52 : decode cX1_addSource 52 = .ok (.getfield 72, 3) := dk_180 0 72 (dk_at dksX1_addSource_2 4 rfl rfl)
theorem dX1_addSource_55 : decode cX1_addSource 55 = .ok (.iload_n 3, 1) := dk_29 (dk_at dksX1_addSource_2 7 rfl rfl)
theorem dX1_addSource_56 : decode cX1_addSource 56 = .ok (.sipush 564, 3) := dk_17 2 52 (dk_at dksX1_addSource_2 8 rfl rfl)
theorem dX1_addSource_59 : decode cX1_addSource 59 = .ok (.isub, 1) := dk_100 (dk_at dksX1_addSource_2 11 rfl rfl)
theorem dX1_addSource_60 : decode cX1_addSource 60 = .ok (.bipush 8, 2) := dk_16 8 (dk_at dksX1_addSource_2 12 rfl rfl)
theorem dX1_addSource_62 : decode cX1_addSource 62 = .ok (.imul, 1) := dk_104 (dk_at dksX1_addSource_2 14 rfl rfl)
theorem dX1_addSource_63 : decode cX1_addSource 63 = .ok (.iload 4, 2) := dk_21 4 (dk_at dksX1_addSource_2 15 rfl rfl)
theorem dX1_addSource_65 : decode cX1_addSource 65 = .ok (.iadd, 1) := dk_96 (dk_at dksX1_addSource_2 17 rfl rfl)
theorem dX1_addSource_66 : decode cX1_addSource 66 = .ok (.laload, 1) := dk_47 (dk_at dksX1_addSource_2 18 rfl rfl)
theorem dX1_addSource_67 : decode cX1_addSource 67 = .ok (.lor, 1) := dk_129 (dk_at dksX1_addSource_2 19 rfl rfl)
theorem dX1_addSource_68 : decode cX1_addSource 68 = .ok (.lastore, 1) := dk_80 (dk_at dksX1_addSource_2 20 rfl rfl)
theorem dX1_addSource_69 : decode cX1_addSource 69 = .ok (.iinc 4 1, 3) := dk_132 4 1 (dk_at dksX1_addSource_2 21 rfl rfl)
theorem dX1_addSource_72 : decode cX1_addSource 72 = .ok (.goto (-35), 3) := dk_167 255 221 (dk_at dksX1_addSource_3 0 rfl rfl)
theorem dX1_addSource_75 : decode cX1_addSource 75 = .ok (.return_, 1) := dk_177 (dk_at dksX1_addSource_3 3 rfl rfl)
abbrev cX1_addRoot : ByteArray := prog_5_method_12_code
def yX1_addRoot : MethodName := ⟨RX1, "addRoot", "([JII)V"⟩
def dkwX1_addRoot_1 : List UInt8 := [104, 21, 4, 96, 47, 129, 80, 132, 4, 1, 167, 255, 225, 177]
abbrev dktX1_addRoot_1 : List UInt8 := dkwX1_addRoot_1 ++ []
def dkwX1_addRoot_0 : List UInt8 := [3, 54, 4, 21, 4, 16, 8, 162, 0, 30, 43, 28, 21, 4, 96, 92, 47, 42, 180, 0, 63, 29, 16, 8]
abbrev dktX1_addRoot_0 : List UInt8 := dkwX1_addRoot_0 ++ dktX1_addRoot_1
theorem dksX1_addRoot_0 : cX1_addRoot.data.toList.drop 0 = dktX1_addRoot_0 := by decide +kernel
theorem dksX1_addRoot_1 : cX1_addRoot.data.toList.drop 24 = dktX1_addRoot_1 := dk_seg dksX1_addRoot_0 24 rfl rfl
theorem dX1_addRoot_0 : decode cX1_addRoot 0 = .ok (.iconst 0, 1) := dk_3 (dk_at dksX1_addRoot_0 0 rfl rfl)
theorem dX1_addRoot_1 : decode cX1_addRoot 1 = .ok (.istore 4, 2) := dk_54 4 (dk_at dksX1_addRoot_0 1 rfl rfl)
theorem dX1_addRoot_3 : decode cX1_addRoot 3 = .ok (.iload 4, 2) := dk_21 4 (dk_at dksX1_addRoot_0 3 rfl rfl)
theorem dX1_addRoot_5 : decode cX1_addRoot 5 = .ok (.bipush 8, 2) := dk_16 8 (dk_at dksX1_addRoot_0 5 rfl rfl)
theorem dX1_addRoot_7 : decode cX1_addRoot 7 = .ok (.if_icmp .ge 30, 3) := dk_162 0 30 (dk_at dksX1_addRoot_0 7 rfl rfl)
theorem dX1_addRoot_10 : decode cX1_addRoot 10 = .ok (.aload_n 1, 1) := dk_43 (dk_at dksX1_addRoot_0 10 rfl rfl)
theorem dX1_addRoot_11 : decode cX1_addRoot 11 = .ok (.iload_n 2, 1) := dk_28 (dk_at dksX1_addRoot_0 11 rfl rfl)
theorem dX1_addRoot_12 : decode cX1_addRoot 12 = .ok (.iload 4, 2) := dk_21 4 (dk_at dksX1_addRoot_0 12 rfl rfl)
theorem dX1_addRoot_14 : decode cX1_addRoot 14 = .ok (.iadd, 1) := dk_96 (dk_at dksX1_addRoot_0 14 rfl rfl)
theorem dX1_addRoot_15 : decode cX1_addRoot 15 = .ok (.dup2, 1) := dk_92 (dk_at dksX1_addRoot_0 15 rfl rfl)
theorem dX1_addRoot_16 : decode cX1_addRoot 16 = .ok (.laload, 1) := dk_47 (dk_at dksX1_addRoot_0 16 rfl rfl)
theorem dX1_addRoot_17 : decode cX1_addRoot 17 = .ok (.aload_n 0, 1) := dk_42 (dk_at dksX1_addRoot_0 17 rfl rfl)
theorem dX1_addRoot_18 : decode cX1_addRoot 18 = .ok (.getfield 63, 3) := dk_180 0 63 (dk_at dksX1_addRoot_0 18 rfl rfl)
theorem dX1_addRoot_21 : decode cX1_addRoot 21 = .ok (.iload_n 3, 1) := dk_29 (dk_at dksX1_addRoot_0 21 rfl rfl)
theorem dX1_addRoot_22 : decode cX1_addRoot 22 = .ok (.bipush 8, 2) := dk_16 8 (dk_at dksX1_addRoot_0 22 rfl rfl)
theorem dX1_addRoot_24 : decode cX1_addRoot 24 = .ok (.imul, 1) := dk_104 (dk_at dksX1_addRoot_1 0 rfl rfl)
theorem dX1_addRoot_25 : decode cX1_addRoot 25 = .ok (.iload 4, 2) := dk_21 4 (dk_at dksX1_addRoot_1 1 rfl rfl)
theorem dX1_addRoot_27 : decode cX1_addRoot 27 = .ok (.iadd, 1) := dk_96 (dk_at dksX1_addRoot_1 3 rfl rfl)
theorem dX1_addRoot_28 : decode cX1_addRoot 28 = .ok (.laload, 1) := dk_47 (dk_at dksX1_addRoot_1 4 rfl rfl)
theorem dX1_addRoot_29 : decode cX1_addRoot 29 = .ok (.lor, 1) := dk_129 (dk_at dksX1_addRoot_1 5 rfl rfl)
theorem dX1_addRoot_30 : decode cX1_addRoot 30 = .ok (.lastore, 1) := dk_80 (dk_at dksX1_addRoot_1 6 rfl rfl)
theorem dX1_addRoot_31 : decode cX1_addRoot 31 = .ok (.iinc 4 1, 3) := dk_132 4 1 (dk_at dksX1_addRoot_1 7 rfl rfl)
theorem dX1_addRoot_34 : decode cX1_addRoot 34 = .ok (.goto (-31), 3) := dk_167 255 225 (dk_at dksX1_addRoot_1 10 rfl rfl)
theorem dX1_addRoot_37 : decode cX1_addRoot 37 = .ok (.return_, 1) := dk_177 (dk_at dksX1_addRoot_1 13 rfl rfl)
abbrev cX1_keepTruth : ByteArray := prog_5_method_39_code
def yX1_keepTruth : MethodName := ⟨RX1, "keepTruth", "()V"⟩
def dkwX1_keepTruth_1 : List UInt8 := [132, 1, 1, 167, 255, 233, 177]
abbrev dktX1_keepTruth_1 : List UInt8 := dkwX1_keepTruth_1 ++ []
def dkwX1_keepTruth_0 : List UInt8 := [4, 60, 27, 42, 180, 0, 121, 163, 0, 21, 42, 180, 0, 115, 27, 42, 180, 0, 48, 27, 46, 79]
abbrev dktX1_keepTruth_0 : List UInt8 := dkwX1_keepTruth_0 ++ dktX1_keepTruth_1
theorem dksX1_keepTruth_0 : cX1_keepTruth.data.toList.drop 0 = dktX1_keepTruth_0 := by decide +kernel
theorem dksX1_keepTruth_1 : cX1_keepTruth.data.toList.drop 22 = dktX1_keepTruth_1 := dk_seg dksX1_keepTruth_0 22 rfl rfl
theorem dX1_keepTruth_0 : decode cX1_keepTruth 0 = .ok (.iconst 1, 1) := dk_4 (dk_at dksX1_keepTruth_0 0 rfl rfl)
theorem dX1_keepTruth_1 : decode cX1_keepTruth 1 = .ok (.istore_n 1, 1) := dk_60 (dk_at dksX1_keepTruth_0 1 rfl rfl)
theorem dX1_keepTruth_2 : decode cX1_keepTruth 2 = .ok (.iload_n 1, 1) := dk_27 (dk_at dksX1_keepTruth_0 2 rfl rfl)
theorem dX1_keepTruth_3 : decode cX1_keepTruth 3 = .ok (.aload_n 0, 1) := dk_42 (dk_at dksX1_keepTruth_0 3 rfl rfl)
theorem dX1_keepTruth_4 : decode cX1_keepTruth 4 = .ok (.getfield 121, 3) := dk_180 0 121 (dk_at dksX1_keepTruth_0 4 rfl rfl)
theorem dX1_keepTruth_7 : decode cX1_keepTruth 7 = .ok (.if_icmp .gt 21, 3) := dk_163 0 21 (dk_at dksX1_keepTruth_0 7 rfl rfl)
theorem dX1_keepTruth_10 : decode cX1_keepTruth 10 = .ok (.aload_n 0, 1) := dk_42 (dk_at dksX1_keepTruth_0 10 rfl rfl)
theorem dX1_keepTruth_11 : decode cX1_keepTruth 11 = .ok (.getfield 115, 3) := dk_180 0 115 (dk_at dksX1_keepTruth_0 11 rfl rfl)
theorem dX1_keepTruth_14 : decode cX1_keepTruth 14 = .ok (.iload_n 1, 1) := dk_27 (dk_at dksX1_keepTruth_0 14 rfl rfl)
theorem dX1_keepTruth_15 : decode cX1_keepTruth 15 = .ok (.aload_n 0, 1) := dk_42 (dk_at dksX1_keepTruth_0 15 rfl rfl)
theorem dX1_keepTruth_16 : decode cX1_keepTruth 16 = .ok (.getfield 48, 3) := dk_180 0 48 (dk_at dksX1_keepTruth_0 16 rfl rfl)
theorem dX1_keepTruth_19 : decode cX1_keepTruth 19 = .ok (.iload_n 1, 1) := dk_27 (dk_at dksX1_keepTruth_0 19 rfl rfl)
theorem dX1_keepTruth_20 : decode cX1_keepTruth 20 = .ok (.iaload, 1) := dk_46 (dk_at dksX1_keepTruth_0 20 rfl rfl)
theorem dX1_keepTruth_21 : decode cX1_keepTruth 21 = .ok (.iastore, 1) := dk_79 (dk_at dksX1_keepTruth_0 21 rfl rfl)
theorem dX1_keepTruth_22 : decode cX1_keepTruth 22 = .ok (.iinc 1 1, 3) := dk_132 1 1 (dk_at dksX1_keepTruth_1 0 rfl rfl)
theorem dX1_keepTruth_25 : decode cX1_keepTruth 25 = .ok (.goto (-23), 3) := dk_167 255 233 (dk_at dksX1_keepTruth_1 3 rfl rfl)
theorem dX1_keepTruth_28 : decode cX1_keepTruth 28 = .ok (.return_, 1) := dk_177 (dk_at dksX1_keepTruth_1 6 rfl rfl)
abbrev cX1_back : ByteArray := prog_5_method_15_code
def yX1_back : MethodName := ⟨RX1, "back", "(I)V"⟩
def dkwX1_back_9 : List UInt8 := [184, 0, 241, 181, 0, 139, 177]
abbrev dktX1_back_9 : List UInt8 := dkwX1_back_9 ++ []
def dkwX1_back_8 : List UInt8 := [182, 0, 202, 42, 180, 0, 42, 21, 5, 46, 54, 5, 167, 255, 212, 167, 255, 79, 42, 42, 180, 0, 139, 27]
abbrev dktX1_back_8 : List UInt8 := dkwX1_back_8 ++ dktX1_back_9
def dkwX1_back_7 : List UInt8 := [42, 180, 0, 22, 42, 180, 0, 39, 21, 5, 46, 92, 46, 4, 100, 79, 42, 42, 180, 0, 39, 21, 5, 46]
abbrev dktX1_back_7 : List UInt8 := dkwX1_back_7 ++ dktX1_back_8
def dkwX1_back_6 : List UInt8 := [167, 255, 212, 42, 180, 0, 45, 42, 29, 116, 182, 0, 194, 46, 54, 5, 21, 5, 17, 252, 19, 159, 0, 42]
abbrev dktX1_back_6 : List UInt8 := dkwX1_back_6 ++ dktX1_back_7
def dkwX1_back_5 : List UInt8 := [100, 79, 42, 42, 180, 0, 39, 21, 5, 46, 182, 0, 202, 42, 180, 0, 42, 21, 5, 46, 54, 5]
abbrev dktX1_back_5 : List UInt8 := dkwX1_back_5 ++ dktX1_back_6
def dkwX1_back_4 : List UInt8 := [54, 5, 21, 5, 17, 252, 19, 159, 0, 42, 42, 180, 0, 25, 42, 180, 0, 39, 21, 5, 46, 92, 46, 4]
abbrev dktX1_back_4 : List UInt8 := dkwX1_back_4 ++ dktX1_back_5
def dkwX1_back_3 : List UInt8 := [167, 0, 4, 3, 79, 42, 180, 0, 48, 21, 4, 3, 79, 42, 180, 0, 45, 42, 29, 182, 0, 194, 46]
abbrev dktX1_back_3 : List UInt8 := dkwX1_back_3 ++ dktX1_back_4
def dkwX1_back_2 : List UInt8 := [180, 0, 136, 46, 62, 29, 184, 0, 219, 54, 4, 42, 180, 0, 57, 21, 4, 29, 158, 0, 7, 4]
abbrev dktX1_back_2 : List UInt8 := dkwX1_back_2 ++ dktX1_back_3
def dkwX1_back_1 : List UInt8 := [42, 180, 0, 136, 28, 164, 0, 175, 42, 89, 180, 0, 136, 4, 100, 181, 0, 136, 42, 180, 0, 66, 42]
abbrev dktX1_back_1 : List UInt8 := dkwX1_back_1 ++ dktX1_back_2
def dkwX1_back_0 : List UInt8 := [42, 180, 0, 139, 27, 164, 0, 14, 42, 180, 0, 69, 27, 4, 96, 46, 167, 0, 7, 42, 180, 0, 136, 61]
abbrev dktX1_back_0 : List UInt8 := dkwX1_back_0 ++ dktX1_back_1
theorem dksX1_back_0 : cX1_back.data.toList.drop 0 = dktX1_back_0 := by decide +kernel
theorem dksX1_back_1 : cX1_back.data.toList.drop 24 = dktX1_back_1 := dk_seg dksX1_back_0 24 rfl rfl
theorem dksX1_back_2 : cX1_back.data.toList.drop 47 = dktX1_back_2 := dk_seg dksX1_back_1 23 rfl rfl
theorem dksX1_back_3 : cX1_back.data.toList.drop 69 = dktX1_back_3 := dk_seg dksX1_back_2 22 rfl rfl
theorem dksX1_back_4 : cX1_back.data.toList.drop 92 = dktX1_back_4 := dk_seg dksX1_back_3 23 rfl rfl
theorem dksX1_back_5 : cX1_back.data.toList.drop 116 = dktX1_back_5 := dk_seg dksX1_back_4 24 rfl rfl
theorem dksX1_back_6 : cX1_back.data.toList.drop 138 = dktX1_back_6 := dk_seg dksX1_back_5 22 rfl rfl
theorem dksX1_back_7 : cX1_back.data.toList.drop 162 = dktX1_back_7 := dk_seg dksX1_back_6 24 rfl rfl
theorem dksX1_back_8 : cX1_back.data.toList.drop 186 = dktX1_back_8 := dk_seg dksX1_back_7 24 rfl rfl
theorem dksX1_back_9 : cX1_back.data.toList.drop 210 = dktX1_back_9 := dk_seg dksX1_back_8 24 rfl rfl
theorem dX1_back_0 : decode cX1_back 0 = .ok (.aload_n 0, 1) := dk_42 (dk_at dksX1_back_0 0 rfl rfl)
theorem dX1_back_1 : decode cX1_back 1 = .ok (.getfield 139, 3) := dk_180 0 139 (dk_at dksX1_back_0 1 rfl rfl)
theorem dX1_back_4 : decode cX1_back 4 = .ok (.iload_n 1, 1) := dk_27 (dk_at dksX1_back_0 4 rfl rfl)
theorem dX1_back_5 : decode cX1_back 5 = .ok (.if_icmp .le 14, 3) := dk_164 0 14 (dk_at dksX1_back_0 5 rfl rfl)
theorem dX1_back_8 : decode cX1_back 8 = .ok (.aload_n 0, 1) := dk_42 (dk_at dksX1_back_0 8 rfl rfl)
theorem dX1_back_9 : decode cX1_back 9 = .ok (.getfield 69, 3) := dk_180 0 69 (dk_at dksX1_back_0 9 rfl rfl)
theorem dX1_back_12 : decode cX1_back 12 = .ok (.iload_n 1, 1) := dk_27 (dk_at dksX1_back_0 12 rfl rfl)
theorem dX1_back_13 : decode cX1_back 13 = .ok (.iconst 1, 1) := dk_4 (dk_at dksX1_back_0 13 rfl rfl)
theorem dX1_back_14 : decode cX1_back 14 = .ok (.iadd, 1) := dk_96 (dk_at dksX1_back_0 14 rfl rfl)
theorem dX1_back_15 : decode cX1_back 15 = .ok (.iaload, 1) := dk_46 (dk_at dksX1_back_0 15 rfl rfl)
theorem dX1_back_16 : decode cX1_back 16 = .ok (.goto 7, 3) := dk_167 0 7 (dk_at dksX1_back_0 16 rfl rfl)
theorem dX1_back_19 : decode cX1_back 19 = .ok (.aload_n 0, 1) := dk_42 (dk_at dksX1_back_0 19 rfl rfl)
theorem dX1_back_20 : decode cX1_back 20 = .ok (.getfield 136, 3) := dk_180 0 136 (dk_at dksX1_back_0 20 rfl rfl)
theorem dX1_back_23 : decode cX1_back 23 = .ok (.istore_n 2, 1) := dk_61 (dk_at dksX1_back_0 23 rfl rfl)
theorem dX1_back_24 : decode cX1_back 24 = .ok (.aload_n 0, 1) := dk_42 (dk_at dksX1_back_1 0 rfl rfl)
theorem dX1_back_25 : decode cX1_back 25 = .ok (.getfield 136, 3) := dk_180 0 136 (dk_at dksX1_back_1 1 rfl rfl)
theorem dX1_back_28 : decode cX1_back 28 = .ok (.iload_n 2, 1) := dk_28 (dk_at dksX1_back_1 4 rfl rfl)
theorem dX1_back_29 : decode cX1_back 29 = .ok (.if_icmp .le 175, 3) := dk_164 0 175 (dk_at dksX1_back_1 5 rfl rfl)
theorem dX1_back_32 : decode cX1_back 32 = .ok (.aload_n 0, 1) := dk_42 (dk_at dksX1_back_1 8 rfl rfl)
theorem dX1_back_33 : decode cX1_back 33 = .ok (.dup, 1) := dk_89 (dk_at dksX1_back_1 9 rfl rfl)
theorem dX1_back_34 : decode cX1_back 34 = .ok (.getfield 136, 3) := dk_180 0 136 (dk_at dksX1_back_1 10 rfl rfl)
theorem dX1_back_37 : decode cX1_back 37 = .ok (.iconst 1, 1) := dk_4 (dk_at dksX1_back_1 13 rfl rfl)
theorem dX1_back_38 : decode cX1_back 38 = .ok (.isub, 1) := dk_100 (dk_at dksX1_back_1 14 rfl rfl)
theorem dX1_back_39 : decode cX1_back 39 = .ok (.putfield 136, 3) := dk_181 0 136 (dk_at dksX1_back_1 15 rfl rfl)
theorem dX1_back_42 : decode cX1_back 42 = .ok (.aload_n 0, 1) := dk_42 (dk_at dksX1_back_1 18 rfl rfl)
theorem dX1_back_43 : decode cX1_back 43 = .ok (.getfield 66, 3) := dk_180 0 66 (dk_at dksX1_back_1 19 rfl rfl)
theorem dX1_back_46 : decode cX1_back 46 = .ok (.aload_n 0, 1) := dk_42 (dk_at dksX1_back_1 22 rfl rfl)
theorem dX1_back_47 : decode cX1_back 47 = .ok (.getfield 136, 3) := dk_180 0 136 (dk_at dksX1_back_2 0 rfl rfl)
theorem dX1_back_50 : decode cX1_back 50 = .ok (.iaload, 1) := dk_46 (dk_at dksX1_back_2 3 rfl rfl)
theorem dX1_back_51 : decode cX1_back 51 = .ok (.istore_n 3, 1) := dk_62 (dk_at dksX1_back_2 4 rfl rfl)
theorem dX1_back_52 : decode cX1_back 52 = .ok (.iload_n 3, 1) := dk_29 (dk_at dksX1_back_2 5 rfl rfl)
theorem dX1_back_53 : decode cX1_back 53 = .ok (.invokestatic 219, 3) := dk_184 0 219 (dk_at dksX1_back_2 6 rfl rfl)
theorem dX1_back_56 : decode cX1_back 56 = .ok (.istore 4, 2) := dk_54 4 (dk_at dksX1_back_2 9 rfl rfl)
theorem dX1_back_58 : decode cX1_back 58 = .ok (.aload_n 0, 1) := dk_42 (dk_at dksX1_back_2 11 rfl rfl)
theorem dX1_back_59 : decode cX1_back 59 = .ok (.getfield 57, 3) := dk_180 0 57 (dk_at dksX1_back_2 12 rfl rfl)
theorem dX1_back_62 : decode cX1_back 62 = .ok (.iload 4, 2) := dk_21 4 (dk_at dksX1_back_2 15 rfl rfl)
theorem dX1_back_64 : decode cX1_back 64 = .ok (.iload_n 3, 1) := dk_29 (dk_at dksX1_back_2 17 rfl rfl)
theorem dX1_back_65 : decode cX1_back 65 = .ok (.ifCond .le 7, 3) := dk_158 0 7 (dk_at dksX1_back_2 18 rfl rfl)
theorem dX1_back_68 : decode cX1_back 68 = .ok (.iconst 1, 1) := dk_4 (dk_at dksX1_back_2 21 rfl rfl)
theorem dX1_back_69 : decode cX1_back 69 = .ok (.goto 4, 3) := dk_167 0 4 (dk_at dksX1_back_3 0 rfl rfl)
theorem dX1_back_72 : decode cX1_back 72 = .ok (.iconst 0, 1) := dk_3 (dk_at dksX1_back_3 3 rfl rfl)
theorem dX1_back_73 : decode cX1_back 73 = .ok (.iastore, 1) := dk_79 (dk_at dksX1_back_3 4 rfl rfl)
theorem dX1_back_74 : decode cX1_back 74 = .ok (.aload_n 0, 1) := dk_42 (dk_at dksX1_back_3 5 rfl rfl)
theorem dX1_back_75 : decode cX1_back 75 = .ok (.getfield 48, 3) := dk_180 0 48 (dk_at dksX1_back_3 6 rfl rfl)
theorem dX1_back_78 : decode cX1_back 78 = .ok (.iload 4, 2) := dk_21 4 (dk_at dksX1_back_3 9 rfl rfl)
theorem dX1_back_80 : decode cX1_back 80 = .ok (.iconst 0, 1) := dk_3 (dk_at dksX1_back_3 11 rfl rfl)
theorem dX1_back_81 : decode cX1_back 81 = .ok (.iastore, 1) := dk_79 (dk_at dksX1_back_3 12 rfl rfl)
theorem dX1_back_82 : decode cX1_back 82 = .ok (.aload_n 0, 1) := dk_42 (dk_at dksX1_back_3 13 rfl rfl)
theorem dX1_back_83 : decode cX1_back 83 = .ok (.getfield 45, 3) := dk_180 0 45 (dk_at dksX1_back_3 14 rfl rfl)
theorem dX1_back_86 : decode cX1_back 86 = .ok (.aload_n 0, 1) := dk_42 (dk_at dksX1_back_3 17 rfl rfl)
theorem dX1_back_87 : decode cX1_back 87 = .ok (.iload_n 3, 1) := dk_29 (dk_at dksX1_back_3 18 rfl rfl)
theorem dX1_back_88 : decode cX1_back 88 = .ok (.invokevirtual 194, 3) := dk_182 0 194 (dk_at dksX1_back_3 19 rfl rfl)
theorem dX1_back_91 : decode cX1_back 91 = .ok (.iaload, 1) := dk_46 (dk_at dksX1_back_3 22 rfl rfl)
theorem dX1_back_92 : decode cX1_back 92 = .ok (.istore 5, 2) := dk_54 5 (dk_at dksX1_back_4 0 rfl rfl)
theorem dX1_back_94 : decode cX1_back 94 = .ok (.iload 5, 2) := dk_21 5 (dk_at dksX1_back_4 2 rfl rfl)
theorem dX1_back_96 : decode cX1_back 96 = .ok (.sipush (-1005), 3) := dk_17 252 19 (dk_at dksX1_back_4 4 rfl rfl)
theorem dX1_back_99 : decode cX1_back 99 = .ok (.if_icmp .eq 42, 3) := dk_159 0 42 (dk_at dksX1_back_4 7 rfl rfl)
theorem dX1_back_102 : decode cX1_back 102 = .ok (.aload_n 0, 1) := dk_42 (dk_at dksX1_back_4 10 rfl rfl)
theorem dX1_back_103 : decode cX1_back 103 = .ok (.getfield 25, 3) := dk_180 0 25 (dk_at dksX1_back_4 11 rfl rfl)
theorem dX1_back_106 : decode cX1_back 106 = .ok (.aload_n 0, 1) := dk_42 (dk_at dksX1_back_4 14 rfl rfl)
theorem dX1_back_107 : decode cX1_back 107 = .ok (.getfield 39, 3) := dk_180 0 39 (dk_at dksX1_back_4 15 rfl rfl)
theorem dX1_back_110 : decode cX1_back 110 = .ok (.iload 5, 2) := dk_21 5 (dk_at dksX1_back_4 18 rfl rfl)
theorem dX1_back_112 : decode cX1_back 112 = .ok (.iaload, 1) := dk_46 (dk_at dksX1_back_4 20 rfl rfl)
theorem dX1_back_113 : decode cX1_back 113 = .ok (.dup2, 1) := dk_92 (dk_at dksX1_back_4 21 rfl rfl)
theorem dX1_back_114 : decode cX1_back 114 = .ok (.iaload, 1) := dk_46 (dk_at dksX1_back_4 22 rfl rfl)
theorem dX1_back_115 : decode cX1_back 115 = .ok (.iconst 1, 1) := dk_4 (dk_at dksX1_back_4 23 rfl rfl)
theorem dX1_back_116 : decode cX1_back 116 = .ok (.isub, 1) := dk_100 (dk_at dksX1_back_5 0 rfl rfl)
theorem dX1_back_117 : decode cX1_back 117 = .ok (.iastore, 1) := dk_79 (dk_at dksX1_back_5 1 rfl rfl)
theorem dX1_back_118 : decode cX1_back 118 = .ok (.aload_n 0, 1) := dk_42 (dk_at dksX1_back_5 2 rfl rfl)
theorem dX1_back_119 : decode cX1_back 119 = .ok (.aload_n 0, 1) := dk_42 (dk_at dksX1_back_5 3 rfl rfl)
theorem dX1_back_120 : decode cX1_back 120 = .ok (.getfield 39, 3) := dk_180 0 39 (dk_at dksX1_back_5 4 rfl rfl)
theorem dX1_back_123 : decode cX1_back 123 = .ok (.iload 5, 2) := dk_21 5 (dk_at dksX1_back_5 7 rfl rfl)
theorem dX1_back_125 : decode cX1_back 125 = .ok (.iaload, 1) := dk_46 (dk_at dksX1_back_5 9 rfl rfl)
theorem dX1_back_126 : decode cX1_back 126 = .ok (.invokevirtual 202, 3) := dk_182 0 202 (dk_at dksX1_back_5 10 rfl rfl)
theorem dX1_back_129 : decode cX1_back 129 = .ok (.aload_n 0, 1) := dk_42 (dk_at dksX1_back_5 13 rfl rfl)
theorem dX1_back_130 : decode cX1_back 130 = .ok (.getfield 42, 3) := dk_180 0 42 (dk_at dksX1_back_5 14 rfl rfl)
theorem dX1_back_133 : decode cX1_back 133 = .ok (.iload 5, 2) := dk_21 5 (dk_at dksX1_back_5 17 rfl rfl)
theorem dX1_back_135 : decode cX1_back 135 = .ok (.iaload, 1) := dk_46 (dk_at dksX1_back_5 19 rfl rfl)
theorem dX1_back_136 : decode cX1_back 136 = .ok (.istore 5, 2) := dk_54 5 (dk_at dksX1_back_5 20 rfl rfl)
theorem dX1_back_138 : decode cX1_back 138 = .ok (.goto (-44), 3) := dk_167 255 212 (dk_at dksX1_back_6 0 rfl rfl)
theorem dX1_back_141 : decode cX1_back 141 = .ok (.aload_n 0, 1) := dk_42 (dk_at dksX1_back_6 3 rfl rfl)
theorem dX1_back_142 : decode cX1_back 142 = .ok (.getfield 45, 3) := dk_180 0 45 (dk_at dksX1_back_6 4 rfl rfl)
theorem dX1_back_145 : decode cX1_back 145 = .ok (.aload_n 0, 1) := dk_42 (dk_at dksX1_back_6 7 rfl rfl)
theorem dX1_back_146 : decode cX1_back 146 = .ok (.iload_n 3, 1) := dk_29 (dk_at dksX1_back_6 8 rfl rfl)
theorem dX1_back_147 : decode cX1_back 147 = .ok (.ineg, 1) := dk_116 (dk_at dksX1_back_6 9 rfl rfl)
theorem dX1_back_148 : decode cX1_back 148 = .ok (.invokevirtual 194, 3) := dk_182 0 194 (dk_at dksX1_back_6 10 rfl rfl)
theorem dX1_back_151 : decode cX1_back 151 = .ok (.iaload, 1) := dk_46 (dk_at dksX1_back_6 13 rfl rfl)
theorem dX1_back_152 : decode cX1_back 152 = .ok (.istore 5, 2) := dk_54 5 (dk_at dksX1_back_6 14 rfl rfl)
theorem dX1_back_154 : decode cX1_back 154 = .ok (.iload 5, 2) := dk_21 5 (dk_at dksX1_back_6 16 rfl rfl)
theorem dX1_back_156 : decode cX1_back 156 = .ok (.sipush (-1005), 3) := dk_17 252 19 (dk_at dksX1_back_6 18 rfl rfl)
theorem dX1_back_159 : decode cX1_back 159 = .ok (.if_icmp .eq 42, 3) := dk_159 0 42 (dk_at dksX1_back_6 21 rfl rfl)
theorem dX1_back_162 : decode cX1_back 162 = .ok (.aload_n 0, 1) := dk_42 (dk_at dksX1_back_7 0 rfl rfl)
theorem dX1_back_163 : decode cX1_back 163 = .ok (.getfield 22, 3) := dk_180 0 22 (dk_at dksX1_back_7 1 rfl rfl)
theorem dX1_back_166 : decode cX1_back 166 = .ok (.aload_n 0, 1) := dk_42 (dk_at dksX1_back_7 4 rfl rfl)
theorem dX1_back_167 : decode cX1_back 167 = .ok (.getfield 39, 3) := dk_180 0 39 (dk_at dksX1_back_7 5 rfl rfl)
theorem dX1_back_170 : decode cX1_back 170 = .ok (.iload 5, 2) := dk_21 5 (dk_at dksX1_back_7 8 rfl rfl)
theorem dX1_back_172 : decode cX1_back 172 = .ok (.iaload, 1) := dk_46 (dk_at dksX1_back_7 10 rfl rfl)
theorem dX1_back_173 : decode cX1_back 173 = .ok (.dup2, 1) := dk_92 (dk_at dksX1_back_7 11 rfl rfl)
theorem dX1_back_174 : decode cX1_back 174 = .ok (.iaload, 1) := dk_46 (dk_at dksX1_back_7 12 rfl rfl)
theorem dX1_back_175 : decode cX1_back 175 = .ok (.iconst 1, 1) := dk_4 (dk_at dksX1_back_7 13 rfl rfl)
theorem dX1_back_176 : decode cX1_back 176 = .ok (.isub, 1) := dk_100 (dk_at dksX1_back_7 14 rfl rfl)
theorem dX1_back_177 : decode cX1_back 177 = .ok (.iastore, 1) := dk_79 (dk_at dksX1_back_7 15 rfl rfl)
theorem dX1_back_178 : decode cX1_back 178 = .ok (.aload_n 0, 1) := dk_42 (dk_at dksX1_back_7 16 rfl rfl)
theorem dX1_back_179 : decode cX1_back 179 = .ok (.aload_n 0, 1) := dk_42 (dk_at dksX1_back_7 17 rfl rfl)
theorem dX1_back_180 : decode cX1_back 180 = .ok (.getfield 39, 3) := dk_180 0 39 (dk_at dksX1_back_7 18 rfl rfl)
theorem dX1_back_183 : decode cX1_back 183 = .ok (.iload 5, 2) := dk_21 5 (dk_at dksX1_back_7 21 rfl rfl)
theorem dX1_back_185 : decode cX1_back 185 = .ok (.iaload, 1) := dk_46 (dk_at dksX1_back_7 23 rfl rfl)
theorem dX1_back_186 : decode cX1_back 186 = .ok (.invokevirtual 202, 3) := dk_182 0 202 (dk_at dksX1_back_8 0 rfl rfl)
theorem dX1_back_189 : decode cX1_back 189 = .ok (.aload_n 0, 1) := dk_42 (dk_at dksX1_back_8 3 rfl rfl)
theorem dX1_back_190 : decode cX1_back 190 = .ok (.getfield 42, 3) := dk_180 0 42 (dk_at dksX1_back_8 4 rfl rfl)
theorem dX1_back_193 : decode cX1_back 193 = .ok (.iload 5, 2) := dk_21 5 (dk_at dksX1_back_8 7 rfl rfl)
theorem dX1_back_195 : decode cX1_back 195 = .ok (.iaload, 1) := dk_46 (dk_at dksX1_back_8 9 rfl rfl)
theorem dX1_back_196 : decode cX1_back 196 = .ok (.istore 5, 2) := dk_54 5 (dk_at dksX1_back_8 10 rfl rfl)
theorem dX1_back_198 : decode cX1_back 198 = .ok (.goto (-44), 3) := dk_167 255 212 (dk_at dksX1_back_8 12 rfl rfl)
theorem dX1_back_201 : decode cX1_back 201 = .ok (.goto (-177), 3) := dk_167 255 79 (dk_at dksX1_back_8 15 rfl rfl)
theorem dX1_back_204 : decode cX1_back 204 = .ok (.aload_n 0, 1) := dk_42 (dk_at dksX1_back_8 18 rfl rfl)
theorem dX1_back_205 : decode cX1_back 205 = .ok (.aload_n 0, 1) := dk_42 (dk_at dksX1_back_8 19 rfl rfl)
theorem dX1_back_206 : decode cX1_back 206 = .ok (.getfield 139, 3) := dk_180 0 139 (dk_at dksX1_back_8 20 rfl rfl)
theorem dX1_back_209 : decode cX1_back 209 = .ok (.iload_n 1, 1) := dk_27 (dk_at dksX1_back_8 23 rfl rfl)
theorem dX1_back_210 : decode cX1_back 210 = .ok (.invokestatic 241, 3) := dk_184 0 241 (dk_at dksX1_back_9 0 rfl rfl)
theorem dX1_back_213 : decode cX1_back 213 = .ok (.putfield 139, 3) := dk_181 0 139 (dk_at dksX1_back_9 3 rfl rfl)
theorem dX1_back_216 : decode cX1_back 216 = .ok (.return_, 1) := dk_177 (dk_at dksX1_back_9 6 rfl rfl)
abbrev cX1_noAtAll : ByteArray := prog_5_method_33_code
def yX1_noAtAll : MethodName := ⟨RX1, "noAtAll", "(I)I"⟩
def dkwX1_noAtAll_1 : List UInt8 := [154, 0, 10, 42, 27, 3, 3, 182, 1, 72, 28, 172]
abbrev dktX1_noAtAll_1 : List UInt8 := dkwX1_noAtAll_1 ++ []
def dkwX1_noAtAll_0 : List UInt8 := [42, 182, 1, 25, 42, 27, 3, 3, 182, 1, 28, 87, 42, 3, 181, 0, 191, 42, 182, 1, 79, 61, 28]
abbrev dktX1_noAtAll_0 : List UInt8 := dkwX1_noAtAll_0 ++ dktX1_noAtAll_1
theorem dksX1_noAtAll_0 : cX1_noAtAll.data.toList.drop 0 = dktX1_noAtAll_0 := by decide +kernel
theorem dksX1_noAtAll_1 : cX1_noAtAll.data.toList.drop 23 = dktX1_noAtAll_1 := dk_seg dksX1_noAtAll_0 23 rfl rfl
theorem dX1_noAtAll_0 : decode cX1_noAtAll 0 = .ok (.aload_n 0, 1) := dk_42 (dk_at dksX1_noAtAll_0 0 rfl rfl)
theorem dX1_noAtAll_1 : decode cX1_noAtAll 1 = .ok (.invokevirtual 281, 3) := dk_182 1 25 (dk_at dksX1_noAtAll_0 1 rfl rfl)
theorem dX1_noAtAll_4 : decode cX1_noAtAll 4 = .ok (.aload_n 0, 1) := dk_42 (dk_at dksX1_noAtAll_0 4 rfl rfl)
theorem dX1_noAtAll_5 : decode cX1_noAtAll 5 = .ok (.iload_n 1, 1) := dk_27 (dk_at dksX1_noAtAll_0 5 rfl rfl)
theorem dX1_noAtAll_6 : decode cX1_noAtAll 6 = .ok (.iconst 0, 1) := dk_3 (dk_at dksX1_noAtAll_0 6 rfl rfl)
theorem dX1_noAtAll_7 : decode cX1_noAtAll 7 = .ok (.iconst 0, 1) := dk_3 (dk_at dksX1_noAtAll_0 7 rfl rfl)
theorem dX1_noAtAll_8 : decode cX1_noAtAll 8 = .ok (.invokevirtual 284, 3) := dk_182 1 28 (dk_at dksX1_noAtAll_0 8 rfl rfl)
theorem dX1_noAtAll_11 : decode cX1_noAtAll 11 = .ok (.pop, 1) := dk_87 (dk_at dksX1_noAtAll_0 11 rfl rfl)
theorem dX1_noAtAll_12 : decode cX1_noAtAll 12 = .ok (.aload_n 0, 1) := dk_42 (dk_at dksX1_noAtAll_0 12 rfl rfl)
theorem dX1_noAtAll_13 : decode cX1_noAtAll 13 = .ok (.iconst 0, 1) := dk_3 (dk_at dksX1_noAtAll_0 13 rfl rfl)
theorem dX1_noAtAll_14 : decode cX1_noAtAll 14 = .ok (.putfield 191, 3) := dk_181 0 191 (dk_at dksX1_noAtAll_0 14 rfl rfl)
theorem dX1_noAtAll_17 : decode cX1_noAtAll 17 = .ok (.aload_n 0, 1) := dk_42 (dk_at dksX1_noAtAll_0 17 rfl rfl)
theorem dX1_noAtAll_18 : decode cX1_noAtAll 18 = .ok (.invokevirtual 335, 3) := dk_182 1 79 (dk_at dksX1_noAtAll_0 18 rfl rfl)
theorem dX1_noAtAll_21 : decode cX1_noAtAll 21 = .ok (.istore_n 2, 1) := dk_61 (dk_at dksX1_noAtAll_0 21 rfl rfl)
theorem dX1_noAtAll_22 : decode cX1_noAtAll 22 = .ok (.iload_n 2, 1) := dk_28 (dk_at dksX1_noAtAll_0 22 rfl rfl)
theorem dX1_noAtAll_23 : decode cX1_noAtAll 23 = .ok (.ifCond .ne 10, 3) := dk_154 0 10 (dk_at dksX1_noAtAll_1 0 rfl rfl)
theorem dX1_noAtAll_26 : decode cX1_noAtAll 26 = .ok (.aload_n 0, 1) := dk_42 (dk_at dksX1_noAtAll_1 3 rfl rfl)
theorem dX1_noAtAll_27 : decode cX1_noAtAll 27 = .ok (.iload_n 1, 1) := dk_27 (dk_at dksX1_noAtAll_1 4 rfl rfl)
theorem dX1_noAtAll_28 : decode cX1_noAtAll 28 = .ok (.iconst 0, 1) := dk_3 (dk_at dksX1_noAtAll_1 5 rfl rfl)
theorem dX1_noAtAll_29 : decode cX1_noAtAll 29 = .ok (.iconst 0, 1) := dk_3 (dk_at dksX1_noAtAll_1 6 rfl rfl)
theorem dX1_noAtAll_30 : decode cX1_noAtAll 30 = .ok (.invokevirtual 328, 3) := dk_182 1 72 (dk_at dksX1_noAtAll_1 7 rfl rfl)
theorem dX1_noAtAll_33 : decode cX1_noAtAll 33 = .ok (.iload_n 2, 1) := dk_28 (dk_at dksX1_noAtAll_1 10 rfl rfl)
theorem dX1_noAtAll_34 : decode cX1_noAtAll 34 = .ok (.ireturn, 1) := dk_172 (dk_at dksX1_noAtAll_1 11 rfl rfl)
abbrev cX1_beginSet : ByteArray := prog_5_method_22_code
def yX1_beginSet : MethodName := ⟨RX1, "beginSet", "()V"⟩
def dkwX1_beginSet_2 : List UInt8 := [167, 255, 240, 42, 3, 181, 1, 22, 42, 3, 181, 1, 19, 42, 3, 181, 1, 16, 177]
abbrev dktX1_beginSet_2 : List UInt8 := dkwX1_beginSet_2 ++ []
def dkwX1_beginSet_1 : List UInt8 := [132, 1, 1, 167, 255, 231, 3, 60, 27, 16, 8, 162, 0, 16, 42, 180, 0, 106, 27, 9, 80, 132, 1, 1]
abbrev dktX1_beginSet_1 : List UInt8 := dkwX1_beginSet_1 ++ dktX1_beginSet_2
def dkwX1_beginSet_0 : List UInt8 := [4, 60, 27, 42, 180, 0, 121, 163, 0, 23, 42, 180, 0, 94, 27, 3, 84, 42, 180, 0, 97, 27, 3, 84]
abbrev dktX1_beginSet_0 : List UInt8 := dkwX1_beginSet_0 ++ dktX1_beginSet_1
theorem dksX1_beginSet_0 : cX1_beginSet.data.toList.drop 0 = dktX1_beginSet_0 := by decide +kernel
theorem dksX1_beginSet_1 : cX1_beginSet.data.toList.drop 24 = dktX1_beginSet_1 := dk_seg dksX1_beginSet_0 24 rfl rfl
theorem dksX1_beginSet_2 : cX1_beginSet.data.toList.drop 48 = dktX1_beginSet_2 := dk_seg dksX1_beginSet_1 24 rfl rfl
theorem dX1_beginSet_0 : decode cX1_beginSet 0 = .ok (.iconst 1, 1) := dk_4 (dk_at dksX1_beginSet_0 0 rfl rfl)
theorem dX1_beginSet_1 : decode cX1_beginSet 1 = .ok (.istore_n 1, 1) := dk_60 (dk_at dksX1_beginSet_0 1 rfl rfl)
theorem dX1_beginSet_2 : decode cX1_beginSet 2 = .ok (.iload_n 1, 1) := dk_27 (dk_at dksX1_beginSet_0 2 rfl rfl)
theorem dX1_beginSet_3 : decode cX1_beginSet 3 = .ok (.aload_n 0, 1) := dk_42 (dk_at dksX1_beginSet_0 3 rfl rfl)
theorem dX1_beginSet_4 : decode cX1_beginSet 4 = .ok (.getfield 121, 3) := dk_180 0 121 (dk_at dksX1_beginSet_0 4 rfl rfl)
theorem dX1_beginSet_7 : decode cX1_beginSet 7 = .ok (.if_icmp .gt 23, 3) := dk_163 0 23 (dk_at dksX1_beginSet_0 7 rfl rfl)
theorem dX1_beginSet_10 : decode cX1_beginSet 10 = .ok (.aload_n 0, 1) := dk_42 (dk_at dksX1_beginSet_0 10 rfl rfl)
theorem dX1_beginSet_11 : decode cX1_beginSet 11 = .ok (.getfield 94, 3) := dk_180 0 94 (dk_at dksX1_beginSet_0 11 rfl rfl)
theorem dX1_beginSet_14 : decode cX1_beginSet 14 = .ok (.iload_n 1, 1) := dk_27 (dk_at dksX1_beginSet_0 14 rfl rfl)
theorem dX1_beginSet_15 : decode cX1_beginSet 15 = .ok (.iconst 0, 1) := dk_3 (dk_at dksX1_beginSet_0 15 rfl rfl)
theorem dX1_beginSet_16 : decode cX1_beginSet 16 = .ok (.bastore, 1) := dk_84 (dk_at dksX1_beginSet_0 16 rfl rfl)
theorem dX1_beginSet_17 : decode cX1_beginSet 17 = .ok (.aload_n 0, 1) := dk_42 (dk_at dksX1_beginSet_0 17 rfl rfl)
theorem dX1_beginSet_18 : decode cX1_beginSet 18 = .ok (.getfield 97, 3) := dk_180 0 97 (dk_at dksX1_beginSet_0 18 rfl rfl)
theorem dX1_beginSet_21 : decode cX1_beginSet 21 = .ok (.iload_n 1, 1) := dk_27 (dk_at dksX1_beginSet_0 21 rfl rfl)
theorem dX1_beginSet_22 : decode cX1_beginSet 22 = .ok (.iconst 0, 1) := dk_3 (dk_at dksX1_beginSet_0 22 rfl rfl)
theorem dX1_beginSet_23 : decode cX1_beginSet 23 = .ok (.bastore, 1) := dk_84 (dk_at dksX1_beginSet_0 23 rfl rfl)
theorem dX1_beginSet_24 : decode cX1_beginSet 24 = .ok (.iinc 1 1, 3) := dk_132 1 1 (dk_at dksX1_beginSet_1 0 rfl rfl)
theorem dX1_beginSet_27 : decode cX1_beginSet 27 = .ok (.goto (-25), 3) := dk_167 255 231 (dk_at dksX1_beginSet_1 3 rfl rfl)
theorem dX1_beginSet_30 : decode cX1_beginSet 30 = .ok (.iconst 0, 1) := dk_3 (dk_at dksX1_beginSet_1 6 rfl rfl)
theorem dX1_beginSet_31 : decode cX1_beginSet 31 = .ok (.istore_n 1, 1) := dk_60 (dk_at dksX1_beginSet_1 7 rfl rfl)
theorem dX1_beginSet_32 : decode cX1_beginSet 32 = .ok (.iload_n 1, 1) := dk_27 (dk_at dksX1_beginSet_1 8 rfl rfl)
theorem dX1_beginSet_33 : decode cX1_beginSet 33 = .ok (.bipush 8, 2) := dk_16 8 (dk_at dksX1_beginSet_1 9 rfl rfl)
theorem dX1_beginSet_35 : decode cX1_beginSet 35 = .ok (.if_icmp .ge 16, 3) := dk_162 0 16 (dk_at dksX1_beginSet_1 11 rfl rfl)
theorem dX1_beginSet_38 : decode cX1_beginSet 38 = .ok (.aload_n 0, 1) := dk_42 (dk_at dksX1_beginSet_1 14 rfl rfl)
theorem dX1_beginSet_39 : decode cX1_beginSet 39 = .ok (.getfield 106, 3) := dk_180 0 106 (dk_at dksX1_beginSet_1 15 rfl rfl)
theorem dX1_beginSet_42 : decode cX1_beginSet 42 = .ok (.iload_n 1, 1) := dk_27 (dk_at dksX1_beginSet_1 18 rfl rfl)
theorem dX1_beginSet_43 : decode cX1_beginSet 43 = .ok (.lconst 0, 1) := dk_9 (dk_at dksX1_beginSet_1 19 rfl rfl)
theorem dX1_beginSet_44 : decode cX1_beginSet 44 = .ok (.lastore, 1) := dk_80 (dk_at dksX1_beginSet_1 20 rfl rfl)
theorem dX1_beginSet_45 : decode cX1_beginSet 45 = .ok (.iinc 1 1, 3) := dk_132 1 1 (dk_at dksX1_beginSet_1 21 rfl rfl)
theorem dX1_beginSet_48 : decode cX1_beginSet 48 = .ok (.goto (-16), 3) := dk_167 255 240 (dk_at dksX1_beginSet_2 0 rfl rfl)
theorem dX1_beginSet_51 : decode cX1_beginSet 51 = .ok (.aload_n 0, 1) := dk_42 (dk_at dksX1_beginSet_2 3 rfl rfl)
theorem dX1_beginSet_52 : decode cX1_beginSet 52 = .ok (.iconst 0, 1) := dk_3 (dk_at dksX1_beginSet_2 4 rfl rfl)
theorem dX1_beginSet_53 : decode cX1_beginSet 53 = .ok (.putfield 278, 3) := dk_181 1 22 (dk_at dksX1_beginSet_2 5 rfl rfl)
theorem dX1_beginSet_56 : decode cX1_beginSet 56 = .ok (.aload_n 0, 1) := dk_42 (dk_at dksX1_beginSet_2 8 rfl rfl)
theorem dX1_beginSet_57 : decode cX1_beginSet 57 = .ok (.iconst 0, 1) := dk_3 (dk_at dksX1_beginSet_2 9 rfl rfl)
theorem dX1_beginSet_58 : decode cX1_beginSet 58 = .ok (.putfield 275, 3) := dk_181 1 19 (dk_at dksX1_beginSet_2 10 rfl rfl)
theorem dX1_beginSet_61 : decode cX1_beginSet 61 = .ok (.aload_n 0, 1) := dk_42 (dk_at dksX1_beginSet_2 13 rfl rfl)
theorem dX1_beginSet_62 : decode cX1_beginSet 62 = .ok (.iconst 0, 1) := dk_3 (dk_at dksX1_beginSet_2 14 rfl rfl)
theorem dX1_beginSet_63 : decode cX1_beginSet 63 = .ok (.putfield 272, 3) := dk_181 1 16 (dk_at dksX1_beginSet_2 15 rfl rfl)
theorem dX1_beginSet_66 : decode cX1_beginSet 66 = .ok (.return_, 1) := dk_177 (dk_at dksX1_beginSet_2 18 rfl rfl)
abbrev cX1_gather : ByteArray := prog_5_method_21_code
def yX1_gather : MethodName := ⟨RX1, "gather", "(III)I"⟩
def dkwX1_gather_8 : List UInt8 := [21, 4, 172]
abbrev dktX1_gather_8 : List UInt8 := dkwX1_gather_8 ++ []
def dkwX1_gather_7 : List UInt8 := [180, 0, 51, 21, 6, 46, 29, 160, 0, 7, 4, 167, 0, 4, 3, 96, 54, 4, 132, 5, 1, 167, 255, 119]
abbrev dktX1_gather_7 : List UInt8 := dkwX1_gather_7 ++ dktX1_gather_8
def dkwX1_gather_6 : List UInt8 := [153, 0, 7, 3, 167, 0, 4, 4, 96, 181, 1, 19, 42, 180, 0, 97, 21, 6, 4, 84, 21, 4, 42]
abbrev dktX1_gather_6 : List UInt8 := dkwX1_gather_6 ++ dktX1_gather_7
def dkwX1_gather_5 : List UInt8 := [154, 0, 64, 42, 180, 0, 94, 21, 6, 4, 84, 42, 89, 180, 1, 19, 42, 180, 0, 97, 21, 6, 51]
abbrev dktX1_gather_5 : List UInt8 := dkwX1_gather_5 ++ dktX1_gather_6
def dkwX1_gather_4 : List UInt8 := [154, 0, 17, 42, 42, 180, 0, 106, 3, 21, 6, 182, 0, 234, 167, 0, 74, 42, 180, 0, 94, 21, 6, 51]
abbrev dktX1_gather_4 : List UInt8 := dkwX1_gather_4 ++ dktX1_gather_5
def dkwX1_gather_3 : List UInt8 := [21, 5, 46, 184, 0, 219, 54, 6, 21, 6, 28, 160, 0, 6, 167, 0, 98, 42, 180, 0, 51, 21, 6, 46]
abbrev dktX1_gather_3 : List UInt8 := dkwX1_gather_3 ++ dktX1_gather_4
def dkwX1_gather_2 : List UInt8 := [54, 5, 21, 5, 42, 180, 0, 15, 27, 46, 42, 180, 0, 19, 27, 46, 96, 162, 0, 125, 42, 180, 0, 36]
abbrev dktX1_gather_2 : List UInt8 := dkwX1_gather_2 ++ dktX1_gather_3
def dkwX1_gather_1 : List UInt8 := [42, 89, 180, 1, 16, 90, 4, 96, 181, 1, 16, 27, 17, 2, 52, 100, 79, 42, 180, 0, 15, 27, 46]
abbrev dktX1_gather_1 : List UInt8 := dkwX1_gather_1 ++ dktX1_gather_2
def dkwX1_gather_0 : List UInt8 := [3, 54, 4, 42, 42, 180, 0, 106, 3, 27, 182, 0, 230, 27, 17, 2, 52, 161, 0, 24, 42, 180, 0, 109]
abbrev dktX1_gather_0 : List UInt8 := dkwX1_gather_0 ++ dktX1_gather_1
theorem dksX1_gather_0 : cX1_gather.data.toList.drop 0 = dktX1_gather_0 := by decide +kernel
theorem dksX1_gather_1 : cX1_gather.data.toList.drop 24 = dktX1_gather_1 := dk_seg dksX1_gather_0 24 rfl rfl
theorem dksX1_gather_2 : cX1_gather.data.toList.drop 47 = dktX1_gather_2 := dk_seg dksX1_gather_1 23 rfl rfl
theorem dksX1_gather_3 : cX1_gather.data.toList.drop 71 = dktX1_gather_3 := dk_seg dksX1_gather_2 24 rfl rfl
theorem dksX1_gather_4 : cX1_gather.data.toList.drop 95 = dktX1_gather_4 := dk_seg dksX1_gather_3 24 rfl rfl
theorem dksX1_gather_5 : cX1_gather.data.toList.drop 119 = dktX1_gather_5 := dk_seg dksX1_gather_4 24 rfl rfl
theorem dksX1_gather_6 : cX1_gather.data.toList.drop 142 = dktX1_gather_6 := dk_seg dksX1_gather_5 23 rfl rfl
theorem dksX1_gather_7 : cX1_gather.data.toList.drop 165 = dktX1_gather_7 := dk_seg dksX1_gather_6 23 rfl rfl
theorem dksX1_gather_8 : cX1_gather.data.toList.drop 189 = dktX1_gather_8 := dk_seg dksX1_gather_7 24 rfl rfl
theorem dX1_gather_0 : decode cX1_gather 0 = .ok (.iconst 0, 1) := dk_3 (dk_at dksX1_gather_0 0 rfl rfl)
theorem dX1_gather_1 : decode cX1_gather 1 = .ok (.istore 4, 2) := dk_54 4 (dk_at dksX1_gather_0 1 rfl rfl)
theorem dX1_gather_3 : decode cX1_gather 3 = .ok (.aload_n 0, 1) := dk_42 (dk_at dksX1_gather_0 3 rfl rfl)
theorem dX1_gather_4 : decode cX1_gather 4 = .ok (.aload_n 0, 1) := dk_42 (dk_at dksX1_gather_0 4 rfl rfl)
theorem dX1_gather_5 : decode cX1_gather 5 = .ok (.getfield 106, 3) := dk_180 0 106 (dk_at dksX1_gather_0 5 rfl rfl)
theorem dX1_gather_8 : decode cX1_gather 8 = .ok (.iconst 0, 1) := dk_3 (dk_at dksX1_gather_0 8 rfl rfl)
theorem dX1_gather_9 : decode cX1_gather 9 = .ok (.iload_n 1, 1) := dk_27 (dk_at dksX1_gather_0 9 rfl rfl)
theorem dX1_gather_10 : decode cX1_gather 10 = .ok (.invokevirtual 230, 3) := dk_182 0 230 (dk_at dksX1_gather_0 10 rfl rfl)
theorem dX1_gather_13 : decode cX1_gather 13 = .ok (.iload_n 1, 1) := dk_27 (dk_at dksX1_gather_0 13 rfl rfl)
theorem dX1_gather_14 : decode cX1_gather 14 = .ok (.sipush 564, 3) := dk_17 2 52 (dk_at dksX1_gather_0 14 rfl rfl)
theorem dX1_gather_17 : decode cX1_gather 17 = .ok (.if_icmp .lt 24, 3) := dk_161 0 24 (dk_at dksX1_gather_0 17 rfl rfl)
theorem dX1_gather_20 : decode cX1_gather 20 = .ok (.aload_n 0, 1) := dk_42 (dk_at dksX1_gather_0 20 rfl rfl)
theorem dX1_gather_21 : decode cX1_gather 21 = .ok (.getfield 109, 3) := dk_180 0 109 (dk_at dksX1_gather_0 21 rfl rfl)
theorem dX1_gather_24 : decode cX1_gather 24 = .ok (.aload_n 0, 1) := dk_42 (dk_at dksX1_gather_1 0 rfl rfl)
theorem dX1_gather_25 : decode cX1_gather 25 = .ok (.dup, 1) := dk_89 (dk_at dksX1_gather_1 1 rfl rfl)
theorem dX1_gather_26 : decode cX1_gather 26 = .ok (.getfield 272, 3) := dk_180 1 16 (dk_at dksX1_gather_1 2 rfl rfl)
theorem dX1_gather_29 : decode cX1_gather 29 = .ok (.dup_x1, 1) := dk_90 (dk_at dksX1_gather_1 5 rfl rfl)
theorem dX1_gather_30 : decode cX1_gather 30 = .ok (.iconst 1, 1) := dk_4 (dk_at dksX1_gather_1 6 rfl rfl)
theorem dX1_gather_31 : decode cX1_gather 31 = .ok (.iadd, 1) := dk_96 (dk_at dksX1_gather_1 7 rfl rfl)
theorem dX1_gather_32 : decode cX1_gather 32 = .ok (.putfield 272, 3) := dk_181 1 16 (dk_at dksX1_gather_1 8 rfl rfl)
theorem dX1_gather_35 : decode cX1_gather 35 = .ok (.iload_n 1, 1) := dk_27 (dk_at dksX1_gather_1 11 rfl rfl)
theorem dX1_gather_36 : decode cX1_gather 36 = .ok (.sipush 564, 3) := dk_17 2 52 (dk_at dksX1_gather_1 12 rfl rfl)
theorem dX1_gather_39 : decode cX1_gather 39 = .ok (.isub, 1) := dk_100 (dk_at dksX1_gather_1 15 rfl rfl)
theorem dX1_gather_40 : decode cX1_gather 40 = .ok (.iastore, 1) := dk_79 (dk_at dksX1_gather_1 16 rfl rfl)
theorem dX1_gather_41 : decode cX1_gather 41 = .ok (.aload_n 0, 1) := dk_42 (dk_at dksX1_gather_1 17 rfl rfl)
theorem dX1_gather_42 : decode cX1_gather 42 = .ok (.getfield 15, 3) := dk_180 0 15 (dk_at dksX1_gather_1 18 rfl rfl)
theorem dX1_gather_45 : decode cX1_gather 45 = .ok (.iload_n 1, 1) := dk_27 (dk_at dksX1_gather_1 21 rfl rfl)
theorem dX1_gather_46 : decode cX1_gather 46 = .ok (.iaload, 1) := dk_46 (dk_at dksX1_gather_1 22 rfl rfl)
theorem dX1_gather_47 : decode cX1_gather 47 = .ok (.istore 5, 2) := dk_54 5 (dk_at dksX1_gather_2 0 rfl rfl)
theorem dX1_gather_49 : decode cX1_gather 49 = .ok (.iload 5, 2) := dk_21 5 (dk_at dksX1_gather_2 2 rfl rfl)
theorem dX1_gather_51 : decode cX1_gather 51 = .ok (.aload_n 0, 1) := dk_42 (dk_at dksX1_gather_2 4 rfl rfl)
theorem dX1_gather_52 : decode cX1_gather 52 = .ok (.getfield 15, 3) := dk_180 0 15 (dk_at dksX1_gather_2 5 rfl rfl)
theorem dX1_gather_55 : decode cX1_gather 55 = .ok (.iload_n 1, 1) := dk_27 (dk_at dksX1_gather_2 8 rfl rfl)
theorem dX1_gather_56 : decode cX1_gather 56 = .ok (.iaload, 1) := dk_46 (dk_at dksX1_gather_2 9 rfl rfl)
theorem dX1_gather_57 : decode cX1_gather 57 = .ok (.aload_n 0, 1) := dk_42 (dk_at dksX1_gather_2 10 rfl rfl)
theorem dX1_gather_58 : decode cX1_gather 58 = .ok (.getfield 19, 3) := dk_180 0 19 (dk_at dksX1_gather_2 11 rfl rfl)
theorem dX1_gather_61 : decode cX1_gather 61 = .ok (.iload_n 1, 1) := dk_27 (dk_at dksX1_gather_2 14 rfl rfl)
theorem dX1_gather_62 : decode cX1_gather 62 = .ok (.iaload, 1) := dk_46 (dk_at dksX1_gather_2 15 rfl rfl)
theorem dX1_gather_63 : decode cX1_gather 63 = .ok (.iadd, 1) := dk_96 (dk_at dksX1_gather_2 16 rfl rfl)
theorem dX1_gather_64 : decode cX1_gather 64 = .ok (.if_icmp .ge 125, 3) := dk_162 0 125 (dk_at dksX1_gather_2 17 rfl rfl)
theorem dX1_gather_67 : decode cX1_gather 67 = .ok (.aload_n 0, 1) := dk_42 (dk_at dksX1_gather_2 20 rfl rfl)
theorem dX1_gather_68 : decode cX1_gather 68 = .ok (.getfield 36, 3) := dk_180 0 36 (dk_at dksX1_gather_2 21 rfl rfl)
theorem dX1_gather_71 : decode cX1_gather 71 = .ok (.iload 5, 2) := dk_21 5 (dk_at dksX1_gather_3 0 rfl rfl)
theorem dX1_gather_73 : decode cX1_gather 73 = .ok (.iaload, 1) := dk_46 (dk_at dksX1_gather_3 2 rfl rfl)
theorem dX1_gather_74 : decode cX1_gather 74 = .ok (.invokestatic 219, 3) := dk_184 0 219 (dk_at dksX1_gather_3 3 rfl rfl)
theorem dX1_gather_77 : decode cX1_gather 77 = .ok (.istore 6, 2) := dk_54 6 (dk_at dksX1_gather_3 6 rfl rfl)
theorem dX1_gather_79 : decode cX1_gather 79 = .ok (.iload 6, 2) := dk_21 6 (dk_at dksX1_gather_3 8 rfl rfl)
theorem dX1_gather_81 : decode cX1_gather 81 = .ok (.iload_n 2, 1) := dk_28 (dk_at dksX1_gather_3 10 rfl rfl)
theorem dX1_gather_82 : decode cX1_gather 82 = .ok (.if_icmp .ne 6, 3) := dk_160 0 6 (dk_at dksX1_gather_3 11 rfl rfl)
theorem dX1_gather_85 : decode cX1_gather 85 = .ok (.goto 98, 3) := dk_167 0 98 (dk_at dksX1_gather_3 14 rfl rfl)
theorem dX1_gather_88 : decode cX1_gather 88 = .ok (.aload_n 0, 1) := dk_42 (dk_at dksX1_gather_3 17 rfl rfl)
theorem dX1_gather_89 : decode cX1_gather 89 = .ok (.getfield 51, 3) := dk_180 0 51 (dk_at dksX1_gather_3 18 rfl rfl)
theorem dX1_gather_92 : decode cX1_gather 92 = .ok (.iload 6, 2) := dk_21 6 (dk_at dksX1_gather_3 21 rfl rfl)
theorem dX1_gather_94 : decode cX1_gather 94 = .ok (.iaload, 1) := dk_46 (dk_at dksX1_gather_3 23 rfl rfl)
theorem dX1_gather_95 : decode cX1_gather 95 = .ok (.ifCond .ne 17, 3) := dk_154 0 17 (dk_at dksX1_gather_4 0 rfl rfl)
theorem dX1_gather_98 : decode cX1_gather 98 = .ok (.aload_n 0, 1) := dk_42 (dk_at dksX1_gather_4 3 rfl rfl)
theorem dX1_gather_99 : decode cX1_gather 99 = .ok (.aload_n 0, 1) := dk_42 (dk_at dksX1_gather_4 4 rfl rfl)
theorem dX1_gather_100 : decode cX1_gather 100 = .ok (.getfield 106, 3) := dk_180 0 106 (dk_at dksX1_gather_4 5 rfl rfl)
theorem dX1_gather_103 : decode cX1_gather 103 = .ok (.iconst 0, 1) := dk_3 (dk_at dksX1_gather_4 8 rfl rfl)
theorem dX1_gather_104 : decode cX1_gather 104 = .ok (.iload 6, 2) := dk_21 6 (dk_at dksX1_gather_4 9 rfl rfl)
theorem dX1_gather_106 : decode cX1_gather 106 = .ok (.invokevirtual 234, 3) := dk_182 0 234 (dk_at dksX1_gather_4 11 rfl rfl)
theorem dX1_gather_109 : decode cX1_gather 109 = .ok (.goto 74, 3) := dk_167 0 74 (dk_at dksX1_gather_4 14 rfl rfl)
theorem dX1_gather_112 : decode cX1_gather 112 = .ok (.aload_n 0, 1) := dk_42 (dk_at dksX1_gather_4 17 rfl rfl)
theorem dX1_gather_113 : decode cX1_gather 113 = .ok (.getfield 94, 3) := dk_180 0 94 (dk_at dksX1_gather_4 18 rfl rfl)
theorem dX1_gather_116 : decode cX1_gather 116 = .ok (.iload 6, 2) := dk_21 6 (dk_at dksX1_gather_4 21 rfl rfl)
theorem dX1_gather_118 : decode cX1_gather 118 = .ok (.baload, 1) := dk_51 (dk_at dksX1_gather_4 23 rfl rfl)
theorem dX1_gather_119 : decode cX1_gather 119 = .ok (.ifCond .ne 64, 3) := dk_154 0 64 (dk_at dksX1_gather_5 0 rfl rfl)
theorem dX1_gather_122 : decode cX1_gather 122 = .ok (.aload_n 0, 1) := dk_42 (dk_at dksX1_gather_5 3 rfl rfl)
theorem dX1_gather_123 : decode cX1_gather 123 = .ok (.getfield 94, 3) := dk_180 0 94 (dk_at dksX1_gather_5 4 rfl rfl)
theorem dX1_gather_126 : decode cX1_gather 126 = .ok (.iload 6, 2) := dk_21 6 (dk_at dksX1_gather_5 7 rfl rfl)
theorem dX1_gather_128 : decode cX1_gather 128 = .ok (.iconst 1, 1) := dk_4 (dk_at dksX1_gather_5 9 rfl rfl)
theorem dX1_gather_129 : decode cX1_gather 129 = .ok (.bastore, 1) := dk_84 (dk_at dksX1_gather_5 10 rfl rfl)
theorem dX1_gather_130 : decode cX1_gather 130 = .ok (.aload_n 0, 1) := dk_42 (dk_at dksX1_gather_5 11 rfl rfl)
theorem dX1_gather_131 : decode cX1_gather 131 = .ok (.dup, 1) := dk_89 (dk_at dksX1_gather_5 12 rfl rfl)
theorem dX1_gather_132 : decode cX1_gather 132 = .ok (.getfield 275, 3) := dk_180 1 19 (dk_at dksX1_gather_5 13 rfl rfl)
theorem dX1_gather_135 : decode cX1_gather 135 = .ok (.aload_n 0, 1) := dk_42 (dk_at dksX1_gather_5 16 rfl rfl)
theorem dX1_gather_136 : decode cX1_gather 136 = .ok (.getfield 97, 3) := dk_180 0 97 (dk_at dksX1_gather_5 17 rfl rfl)
theorem dX1_gather_139 : decode cX1_gather 139 = .ok (.iload 6, 2) := dk_21 6 (dk_at dksX1_gather_5 20 rfl rfl)
theorem dX1_gather_141 : decode cX1_gather 141 = .ok (.baload, 1) := dk_51 (dk_at dksX1_gather_5 22 rfl rfl)
theorem dX1_gather_142 : decode cX1_gather 142 = .ok (.ifCond .eq 7, 3) := dk_153 0 7 (dk_at dksX1_gather_6 0 rfl rfl)
theorem dX1_gather_145 : decode cX1_gather 145 = .ok (.iconst 0, 1) := dk_3 (dk_at dksX1_gather_6 3 rfl rfl)
theorem dX1_gather_146 : decode cX1_gather 146 = .ok (.goto 4, 3) := dk_167 0 4 (dk_at dksX1_gather_6 4 rfl rfl)
theorem dX1_gather_149 : decode cX1_gather 149 = .ok (.iconst 1, 1) := dk_4 (dk_at dksX1_gather_6 7 rfl rfl)
theorem dX1_gather_150 : decode cX1_gather 150 = .ok (.iadd, 1) := dk_96 (dk_at dksX1_gather_6 8 rfl rfl)
theorem dX1_gather_151 : decode cX1_gather 151 = .ok (.putfield 275, 3) := dk_181 1 19 (dk_at dksX1_gather_6 9 rfl rfl)
theorem dX1_gather_154 : decode cX1_gather 154 = .ok (.aload_n 0, 1) := dk_42 (dk_at dksX1_gather_6 12 rfl rfl)
theorem dX1_gather_155 : decode cX1_gather 155 = .ok (.getfield 97, 3) := dk_180 0 97 (dk_at dksX1_gather_6 13 rfl rfl)
theorem dX1_gather_158 : decode cX1_gather 158 = .ok (.iload 6, 2) := dk_21 6 (dk_at dksX1_gather_6 16 rfl rfl)
theorem dX1_gather_160 : decode cX1_gather 160 = .ok (.iconst 1, 1) := dk_4 (dk_at dksX1_gather_6 18 rfl rfl)
theorem dX1_gather_161 : decode cX1_gather 161 = .ok (.bastore, 1) := dk_84 (dk_at dksX1_gather_6 19 rfl rfl)
theorem dX1_gather_162 : decode cX1_gather 162 = .ok (.iload 4, 2) := dk_21 4 (dk_at dksX1_gather_6 20 rfl rfl)
theorem dX1_gather_164 : decode cX1_gather 164 = .ok (.aload_n 0, 1) := dk_42 (dk_at dksX1_gather_6 22 rfl rfl)
theorem dX1_gather_165 : decode cX1_gather 165 = .ok (.getfield 51, 3) := dk_180 0 51 (dk_at dksX1_gather_7 0 rfl rfl)
theorem dX1_gather_168 : decode cX1_gather 168 = .ok (.iload 6, 2) := dk_21 6 (dk_at dksX1_gather_7 3 rfl rfl)
theorem dX1_gather_170 : decode cX1_gather 170 = .ok (.iaload, 1) := dk_46 (dk_at dksX1_gather_7 5 rfl rfl)
theorem dX1_gather_171 : decode cX1_gather 171 = .ok (.iload_n 3, 1) := dk_29 (dk_at dksX1_gather_7 6 rfl rfl)
theorem dX1_gather_172 : decode cX1_gather 172 = .ok (.if_icmp .ne 7, 3) := dk_160 0 7 (dk_at dksX1_gather_7 7 rfl rfl)
theorem dX1_gather_175 : decode cX1_gather 175 = .ok (.iconst 1, 1) := dk_4 (dk_at dksX1_gather_7 10 rfl rfl)
theorem dX1_gather_176 : decode cX1_gather 176 = .ok (.goto 4, 3) := dk_167 0 4 (dk_at dksX1_gather_7 11 rfl rfl)
theorem dX1_gather_179 : decode cX1_gather 179 = .ok (.iconst 0, 1) := dk_3 (dk_at dksX1_gather_7 14 rfl rfl)
theorem dX1_gather_180 : decode cX1_gather 180 = .ok (.iadd, 1) := dk_96 (dk_at dksX1_gather_7 15 rfl rfl)
theorem dX1_gather_181 : decode cX1_gather 181 = .ok (.istore 4, 2) := dk_54 4 (dk_at dksX1_gather_7 16 rfl rfl)
theorem dX1_gather_183 : decode cX1_gather 183 = .ok (.iinc 5 1, 3) := dk_132 5 1 (dk_at dksX1_gather_7 18 rfl rfl)
theorem dX1_gather_186 : decode cX1_gather 186 = .ok (.goto (-137), 3) := dk_167 255 119 (dk_at dksX1_gather_7 21 rfl rfl)
theorem dX1_gather_189 : decode cX1_gather 189 = .ok (.iload 4, 2) := dk_21 4 (dk_at dksX1_gather_8 0 rfl rfl)
theorem dX1_gather_191 : decode cX1_gather 191 = .ok (.ireturn, 1) := dk_172 (dk_at dksX1_gather_8 2 rfl rfl)
abbrev cX1_no : ByteArray := prog_5_method_32_code
def yX1_no : MethodName := ⟨RX1, "no", "()I"⟩
def dkwX1_no_2 : List UInt8 := [172]
abbrev dktX1_no_2 : List UInt8 := dkwX1_no_2 ++ []
def dkwX1_no_1 : List UInt8 := [16, 8, 162, 0, 21, 42, 180, 0, 88, 27, 42, 180, 0, 106, 27, 47, 80, 132, 1, 1, 167, 255, 235, 3]
abbrev dktX1_no_1 : List UInt8 := dkwX1_no_1 ++ dktX1_no_2
def dkwX1_no_0 : List UInt8 := [42, 42, 180, 1, 22, 182, 1, 50, 154, 0, 7, 17, 252, 21, 172, 42, 3, 182, 1, 68, 3, 60, 27]
abbrev dktX1_no_0 : List UInt8 := dkwX1_no_0 ++ dktX1_no_1
theorem dksX1_no_0 : cX1_no.data.toList.drop 0 = dktX1_no_0 := by decide +kernel
theorem dksX1_no_1 : cX1_no.data.toList.drop 23 = dktX1_no_1 := dk_seg dksX1_no_0 23 rfl rfl
theorem dksX1_no_2 : cX1_no.data.toList.drop 47 = dktX1_no_2 := dk_seg dksX1_no_1 24 rfl rfl
theorem dX1_no_0 : decode cX1_no 0 = .ok (.aload_n 0, 1) := dk_42 (dk_at dksX1_no_0 0 rfl rfl)
theorem dX1_no_1 : decode cX1_no 1 = .ok (.aload_n 0, 1) := dk_42 (dk_at dksX1_no_0 1 rfl rfl)
theorem dX1_no_2 : decode cX1_no 2 = .ok (.getfield 278, 3) := dk_180 1 22 (dk_at dksX1_no_0 2 rfl rfl)
theorem dX1_no_5 : decode cX1_no 5 = .ok (.invokevirtual 306, 3) := dk_182 1 50 (dk_at dksX1_no_0 5 rfl rfl)
theorem dX1_no_8 : decode cX1_no 8 = .ok (.ifCond .ne 7, 3) := dk_154 0 7 (dk_at dksX1_no_0 8 rfl rfl)
theorem dX1_no_11 : decode cX1_no 11 = .ok (.sipush (-1003), 3) := dk_17 252 21 (dk_at dksX1_no_0 11 rfl rfl)
theorem dX1_no_14 : decode cX1_no 14 = .ok (.ireturn, 1) := dk_172 (dk_at dksX1_no_0 14 rfl rfl)
theorem dX1_no_15 : decode cX1_no 15 = .ok (.aload_n 0, 1) := dk_42 (dk_at dksX1_no_0 15 rfl rfl)
theorem dX1_no_16 : decode cX1_no 16 = .ok (.iconst 0, 1) := dk_3 (dk_at dksX1_no_0 16 rfl rfl)
theorem dX1_no_17 : decode cX1_no 17 = .ok (.invokevirtual 324, 3) := dk_182 1 68 (dk_at dksX1_no_0 17 rfl rfl)
theorem dX1_no_20 : decode cX1_no 20 = .ok (.iconst 0, 1) := dk_3 (dk_at dksX1_no_0 20 rfl rfl)
theorem dX1_no_21 : decode cX1_no 21 = .ok (.istore_n 1, 1) := dk_60 (dk_at dksX1_no_0 21 rfl rfl)
theorem dX1_no_22 : decode cX1_no 22 = .ok (.iload_n 1, 1) := dk_27 (dk_at dksX1_no_0 22 rfl rfl)
theorem dX1_no_23 : decode cX1_no 23 = .ok (.bipush 8, 2) := dk_16 8 (dk_at dksX1_no_1 0 rfl rfl)
theorem dX1_no_25 : decode cX1_no 25 = .ok (.if_icmp .ge 21, 3) := dk_162 0 21 (dk_at dksX1_no_1 2 rfl rfl)
theorem dX1_no_28 : decode cX1_no 28 = .ok (.aload_n 0, 1) := dk_42 (dk_at dksX1_no_1 5 rfl rfl)
theorem dX1_no_29 : decode cX1_no 29 = .ok (.getfield 88, 3) := dk_180 0 88 (dk_at dksX1_no_1 6 rfl rfl)
theorem dX1_no_32 : decode cX1_no 32 = .ok (.iload_n 1, 1) := dk_27 (dk_at dksX1_no_1 9 rfl rfl)
theorem dX1_no_33 : decode cX1_no 33 = .ok (.aload_n 0, 1) := dk_42 (dk_at dksX1_no_1 10 rfl rfl)
theorem dX1_no_34 : decode cX1_no 34 = .ok (.getfield 106, 3) := dk_180 0 106 (dk_at dksX1_no_1 11 rfl rfl)
theorem dX1_no_37 : decode cX1_no 37 = .ok (.iload_n 1, 1) := dk_27 (dk_at dksX1_no_1 14 rfl rfl)
theorem dX1_no_38 : decode cX1_no 38 = .ok (.laload, 1) := dk_47 (dk_at dksX1_no_1 15 rfl rfl)
theorem dX1_no_39 : decode cX1_no 39 = .ok (.lastore, 1) := dk_80 (dk_at dksX1_no_1 16 rfl rfl)
theorem dX1_no_40 : decode cX1_no 40 = .ok (.iinc 1 1, 3) := dk_132 1 1 (dk_at dksX1_no_1 17 rfl rfl)
theorem dX1_no_43 : decode cX1_no 43 = .ok (.goto (-21), 3) := dk_167 255 235 (dk_at dksX1_no_1 20 rfl rfl)
theorem dX1_no_46 : decode cX1_no 46 = .ok (.iconst 0, 1) := dk_3 (dk_at dksX1_no_1 23 rfl rfl)
theorem dX1_no_47 : decode cX1_no 47 = .ok (.ireturn, 1) := dk_172 (dk_at dksX1_no_2 0 rfl rfl)
abbrev cX1_hasRoom : ByteArray := prog_5_method_25_code
def yX1_hasRoom : MethodName := ⟨RX1, "hasRoom", "(I)Z"⟩
def dkwX1_hasRoom_1 : List UInt8 := [167, 0, 4, 3, 172]
abbrev dktX1_hasRoom_1 : List UInt8 := dkwX1_hasRoom_1 ++ []
def dkwX1_hasRoom_0 : List UInt8 := [42, 180, 0, 148, 17, 3, 32, 162, 0, 19, 42, 180, 0, 151, 27, 96, 17, 31, 64, 163, 0, 7, 4]
abbrev dktX1_hasRoom_0 : List UInt8 := dkwX1_hasRoom_0 ++ dktX1_hasRoom_1
theorem dksX1_hasRoom_0 : cX1_hasRoom.data.toList.drop 0 = dktX1_hasRoom_0 := by decide +kernel
theorem dksX1_hasRoom_1 : cX1_hasRoom.data.toList.drop 23 = dktX1_hasRoom_1 := dk_seg dksX1_hasRoom_0 23 rfl rfl
theorem dX1_hasRoom_0 : decode cX1_hasRoom 0 = .ok (.aload_n 0, 1) := dk_42 (dk_at dksX1_hasRoom_0 0 rfl rfl)
theorem dX1_hasRoom_1 : decode cX1_hasRoom 1 = .ok (.getfield 148, 3) := dk_180 0 148 (dk_at dksX1_hasRoom_0 1 rfl rfl)
theorem dX1_hasRoom_4 : decode cX1_hasRoom 4 = .ok (.sipush 800, 3) := dk_17 3 32 (dk_at dksX1_hasRoom_0 4 rfl rfl)
theorem dX1_hasRoom_7 : decode cX1_hasRoom 7 = .ok (.if_icmp .ge 19, 3) := dk_162 0 19 (dk_at dksX1_hasRoom_0 7 rfl rfl)
theorem dX1_hasRoom_10 : decode cX1_hasRoom 10 = .ok (.aload_n 0, 1) := dk_42 (dk_at dksX1_hasRoom_0 10 rfl rfl)
theorem dX1_hasRoom_11 : decode cX1_hasRoom 11 = .ok (.getfield 151, 3) := dk_180 0 151 (dk_at dksX1_hasRoom_0 11 rfl rfl)
theorem dX1_hasRoom_14 : decode cX1_hasRoom 14 = .ok (.iload_n 1, 1) := dk_27 (dk_at dksX1_hasRoom_0 14 rfl rfl)
theorem dX1_hasRoom_15 : decode cX1_hasRoom 15 = .ok (.iadd, 1) := dk_96 (dk_at dksX1_hasRoom_0 15 rfl rfl)
theorem dX1_hasRoom_16 : decode cX1_hasRoom 16 = .ok (.sipush 8000, 3) := dk_17 31 64 (dk_at dksX1_hasRoom_0 16 rfl rfl)
theorem dX1_hasRoom_19 : decode cX1_hasRoom 19 = .ok (.if_icmp .gt 7, 3) := dk_163 0 7 (dk_at dksX1_hasRoom_0 19 rfl rfl)
theorem dX1_hasRoom_22 : decode cX1_hasRoom 22 = .ok (.iconst 1, 1) := dk_4 (dk_at dksX1_hasRoom_0 22 rfl rfl)
theorem dX1_hasRoom_23 : decode cX1_hasRoom 23 = .ok (.goto 4, 3) := dk_167 0 4 (dk_at dksX1_hasRoom_1 0 rfl rfl)
theorem dX1_hasRoom_26 : decode cX1_hasRoom 26 = .ok (.iconst 0, 1) := dk_3 (dk_at dksX1_hasRoom_1 3 rfl rfl)
theorem dX1_hasRoom_27 : decode cX1_hasRoom 27 = .ok (.ireturn, 1) := dk_172 (dk_at dksX1_hasRoom_1 4 rfl rfl)
abbrev cX1_keep : ByteArray := prog_5_method_26_code
def yX1_keep : MethodName := ⟨RX1, "keep", "(Z)V"⟩
def dkwX1_keep_5 : List UInt8 := [28, 182, 0, 202, 177]
abbrev dktX1_keep_5 : List UInt8 := dkwX1_keep_5 ++ []
def dkwX1_keep_4 : List UInt8 := [153, 0, 16, 42, 89, 180, 0, 175, 4, 96, 181, 0, 175, 167, 0, 15, 42, 180, 0, 28, 28, 3, 84, 42]
abbrev dktX1_keep_4 : List UInt8 := dkwX1_keep_4 ++ dktX1_keep_5
def dkwX1_keep_3 : List UInt8 := [42, 180, 1, 22, 96, 181, 0, 151, 42, 28, 42, 180, 0, 103, 3, 42, 180, 1, 22, 182, 0, 215, 27]
abbrev dktX1_keep_3 : List UInt8 := dkwX1_keep_3 ++ dktX1_keep_4
def dkwX1_keep_2 : List UInt8 := [180, 0, 75, 42, 180, 0, 148, 3, 79, 42, 89, 180, 0, 148, 4, 96, 181, 0, 148, 42, 89, 180, 0, 151]
abbrev dktX1_keep_2 : List UInt8 := dkwX1_keep_2 ++ dktX1_keep_3
def dkwX1_keep_1 : List UInt8 := [180, 0, 148, 16, 8, 104, 29, 96, 42, 180, 0, 106, 29, 47, 80, 132, 3, 1, 167, 255, 227, 42]
abbrev dktX1_keep_1 : List UInt8 := dkwX1_keep_1 ++ dktX1_keep_2
def dkwX1_keep_0 : List UInt8 := [17, 2, 52, 42, 180, 0, 148, 96, 61, 3, 62, 29, 16, 8, 162, 0, 29, 42, 180, 0, 72, 42]
abbrev dktX1_keep_0 : List UInt8 := dkwX1_keep_0 ++ dktX1_keep_1
theorem dksX1_keep_0 : cX1_keep.data.toList.drop 0 = dktX1_keep_0 := by decide +kernel
theorem dksX1_keep_1 : cX1_keep.data.toList.drop 22 = dktX1_keep_1 := dk_seg dksX1_keep_0 22 rfl rfl
theorem dksX1_keep_2 : cX1_keep.data.toList.drop 44 = dktX1_keep_2 := dk_seg dksX1_keep_1 22 rfl rfl
theorem dksX1_keep_3 : cX1_keep.data.toList.drop 68 = dktX1_keep_3 := dk_seg dksX1_keep_2 24 rfl rfl
theorem dksX1_keep_4 : cX1_keep.data.toList.drop 91 = dktX1_keep_4 := dk_seg dksX1_keep_3 23 rfl rfl
theorem dksX1_keep_5 : cX1_keep.data.toList.drop 115 = dktX1_keep_5 := dk_seg dksX1_keep_4 24 rfl rfl
theorem dX1_keep_0 : decode cX1_keep 0 = .ok (.sipush 564, 3) := dk_17 2 52 (dk_at dksX1_keep_0 0 rfl rfl)
theorem dX1_keep_3 : decode cX1_keep 3 = .ok (.aload_n 0, 1) := dk_42 (dk_at dksX1_keep_0 3 rfl rfl)
theorem dX1_keep_4 : decode cX1_keep 4 = .ok (.getfield 148, 3) := dk_180 0 148 (dk_at dksX1_keep_0 4 rfl rfl)
theorem dX1_keep_7 : decode cX1_keep 7 = .ok (.iadd, 1) := dk_96 (dk_at dksX1_keep_0 7 rfl rfl)
theorem dX1_keep_8 : decode cX1_keep 8 = .ok (.istore_n 2, 1) := dk_61 (dk_at dksX1_keep_0 8 rfl rfl)
theorem dX1_keep_9 : decode cX1_keep 9 = .ok (.iconst 0, 1) := dk_3 (dk_at dksX1_keep_0 9 rfl rfl)
theorem dX1_keep_10 : decode cX1_keep 10 = .ok (.istore_n 3, 1) := dk_62 (dk_at dksX1_keep_0 10 rfl rfl)
theorem dX1_keep_11 : decode cX1_keep 11 = .ok (.iload_n 3, 1) := dk_29 (dk_at dksX1_keep_0 11 rfl rfl)
theorem dX1_keep_12 : decode cX1_keep 12 = .ok (.bipush 8, 2) := dk_16 8 (dk_at dksX1_keep_0 12 rfl rfl)
theorem dX1_keep_14 : decode cX1_keep 14 = .ok (.if_icmp .ge 29, 3) := dk_162 0 29 (dk_at dksX1_keep_0 14 rfl rfl)
theorem dX1_keep_17 : decode cX1_keep 17 = .ok (.aload_n 0, 1) := dk_42 (dk_at dksX1_keep_0 17 rfl rfl)
theorem dX1_keep_18 : decode cX1_keep 18 = .ok (.getfield 72, 3) := dk_180 0 72 (dk_at dksX1_keep_0 18 rfl rfl)
theorem dX1_keep_21 : decode cX1_keep 21 = .ok (.aload_n 0, 1) := dk_42 (dk_at dksX1_keep_0 21 rfl rfl)
theorem dX1_keep_22 : decode cX1_keep 22 = .ok (.getfield 148, 3) := dk_180 0 148 (dk_at dksX1_keep_1 0 rfl rfl)
theorem dX1_keep_25 : decode cX1_keep 25 = .ok (.bipush 8, 2) := dk_16 8 (dk_at dksX1_keep_1 3 rfl rfl)
theorem dX1_keep_27 : decode cX1_keep 27 = .ok (.imul, 1) := dk_104 (dk_at dksX1_keep_1 5 rfl rfl)
theorem dX1_keep_28 : decode cX1_keep 28 = .ok (.iload_n 3, 1) := dk_29 (dk_at dksX1_keep_1 6 rfl rfl)
theorem dX1_keep_29 : decode cX1_keep 29 = .ok (.iadd, 1) := dk_96 (dk_at dksX1_keep_1 7 rfl rfl)
theorem dX1_keep_30 : decode cX1_keep 30 = .ok (.aload_n 0, 1) := dk_42 (dk_at dksX1_keep_1 8 rfl rfl)
theorem dX1_keep_31 : decode cX1_keep 31 = .ok (.getfield 106, 3) := dk_180 0 106 (dk_at dksX1_keep_1 9 rfl rfl)
theorem dX1_keep_34 : decode cX1_keep 34 = .ok (.iload_n 3, 1) := dk_29 (dk_at dksX1_keep_1 12 rfl rfl)
theorem dX1_keep_35 : decode cX1_keep 35 = .ok (.laload, 1) := dk_47 (dk_at dksX1_keep_1 13 rfl rfl)
theorem dX1_keep_36 : decode cX1_keep 36 = .ok (.lastore, 1) := dk_80 (dk_at dksX1_keep_1 14 rfl rfl)
theorem dX1_keep_37 : decode cX1_keep 37 = .ok (.iinc 3 1, 3) := dk_132 3 1 (dk_at dksX1_keep_1 15 rfl rfl)
theorem dX1_keep_40 : decode cX1_keep 40 = .ok (.goto (-29), 3) := dk_167 255 227 (dk_at dksX1_keep_1 18 rfl rfl)
theorem dX1_keep_43 : decode cX1_keep 43 = .ok (.aload_n 0, 1) := dk_42 (dk_at dksX1_keep_1 21 rfl rfl)
theorem dX1_keep_44 : decode cX1_keep 44 = .ok (.getfield 75, 3) := dk_180 0 75 (dk_at dksX1_keep_2 0 rfl rfl)
theorem dX1_keep_47 : decode cX1_keep 47 = .ok (.aload_n 0, 1) := dk_42 (dk_at dksX1_keep_2 3 rfl rfl)
theorem dX1_keep_48 : decode cX1_keep 48 = .ok (.getfield 148, 3) := dk_180 0 148 (dk_at dksX1_keep_2 4 rfl rfl)
theorem dX1_keep_51 : decode cX1_keep 51 = .ok (.iconst 0, 1) := dk_3 (dk_at dksX1_keep_2 7 rfl rfl)
theorem dX1_keep_52 : decode cX1_keep 52 = .ok (.iastore, 1) := dk_79 (dk_at dksX1_keep_2 8 rfl rfl)
theorem dX1_keep_53 : decode cX1_keep 53 = .ok (.aload_n 0, 1) := dk_42 (dk_at dksX1_keep_2 9 rfl rfl)
theorem dX1_keep_54 : decode cX1_keep 54 = .ok (.dup, 1) := dk_89 (dk_at dksX1_keep_2 10 rfl rfl)
theorem dX1_keep_55 : decode cX1_keep 55 = .ok (.getfield 148, 3) := dk_180 0 148 (dk_at dksX1_keep_2 11 rfl rfl)
theorem dX1_keep_58 : decode cX1_keep 58 = .ok (.iconst 1, 1) := dk_4 (dk_at dksX1_keep_2 14 rfl rfl)
theorem dX1_keep_59 : decode cX1_keep 59 = .ok (.iadd, 1) := dk_96 (dk_at dksX1_keep_2 15 rfl rfl)
theorem dX1_keep_60 : decode cX1_keep 60 = .ok (.putfield 148, 3) := dk_181 0 148 (dk_at dksX1_keep_2 16 rfl rfl)
theorem dX1_keep_63 : decode cX1_keep 63 = .ok (.aload_n 0, 1) := dk_42 (dk_at dksX1_keep_2 19 rfl rfl)
theorem dX1_keep_64 : decode cX1_keep 64 = .ok (.dup, 1) := dk_89 (dk_at dksX1_keep_2 20 rfl rfl)
theorem dX1_keep_65 : decode cX1_keep 65 = .ok (.getfield 151, 3) := dk_180 0 151 (dk_at dksX1_keep_2 21 rfl rfl)
theorem dX1_keep_68 : decode cX1_keep 68 = .ok (.aload_n 0, 1) := dk_42 (dk_at dksX1_keep_3 0 rfl rfl)
theorem dX1_keep_69 : decode cX1_keep 69 = .ok (.getfield 278, 3) := dk_180 1 22 (dk_at dksX1_keep_3 1 rfl rfl)
theorem dX1_keep_72 : decode cX1_keep 72 = .ok (.iadd, 1) := dk_96 (dk_at dksX1_keep_3 4 rfl rfl)
theorem dX1_keep_73 : decode cX1_keep 73 = .ok (.putfield 151, 3) := dk_181 0 151 (dk_at dksX1_keep_3 5 rfl rfl)
theorem dX1_keep_76 : decode cX1_keep 76 = .ok (.aload_n 0, 1) := dk_42 (dk_at dksX1_keep_3 8 rfl rfl)
theorem dX1_keep_77 : decode cX1_keep 77 = .ok (.iload_n 2, 1) := dk_28 (dk_at dksX1_keep_3 9 rfl rfl)
theorem dX1_keep_78 : decode cX1_keep 78 = .ok (.aload_n 0, 1) := dk_42 (dk_at dksX1_keep_3 10 rfl rfl)
theorem dX1_keep_79 : decode cX1_keep 79 = .ok (.getfield 103, 3) := dk_180 0 103 (dk_at dksX1_keep_3 11 rfl rfl)
theorem dX1_keep_82 : decode cX1_keep 82 = .ok (.iconst 0, 1) := dk_3 (dk_at dksX1_keep_3 14 rfl rfl)
theorem dX1_keep_83 : decode cX1_keep 83 = .ok (.aload_n 0, 1) := dk_42 (dk_at dksX1_keep_3 15 rfl rfl)
theorem dX1_keep_84 : decode cX1_keep 84 = .ok (.getfield 278, 3) := dk_180 1 22 (dk_at dksX1_keep_3 16 rfl rfl)
theorem dX1_keep_87 : decode cX1_keep 87 = .ok (.invokevirtual 215, 3) := dk_182 0 215 (dk_at dksX1_keep_3 19 rfl rfl)
theorem dX1_keep_90 : decode cX1_keep 90 = .ok (.iload_n 1, 1) := dk_27 (dk_at dksX1_keep_3 22 rfl rfl)
theorem dX1_keep_91 : decode cX1_keep 91 = .ok (.ifCond .eq 16, 3) := dk_153 0 16 (dk_at dksX1_keep_4 0 rfl rfl)
theorem dX1_keep_94 : decode cX1_keep 94 = .ok (.aload_n 0, 1) := dk_42 (dk_at dksX1_keep_4 3 rfl rfl)
theorem dX1_keep_95 : decode cX1_keep 95 = .ok (.dup, 1) := dk_89 (dk_at dksX1_keep_4 4 rfl rfl)
theorem dX1_keep_96 : decode cX1_keep 96 = .ok (.getfield 175, 3) := dk_180 0 175 (dk_at dksX1_keep_4 5 rfl rfl)
theorem dX1_keep_99 : decode cX1_keep 99 = .ok (.iconst 1, 1) := dk_4 (dk_at dksX1_keep_4 8 rfl rfl)
theorem dX1_keep_100 : decode cX1_keep 100 = .ok (.iadd, 1) := dk_96 (dk_at dksX1_keep_4 9 rfl rfl)
theorem dX1_keep_101 : decode cX1_keep 101 = .ok (.putfield 175, 3) := dk_181 0 175 (dk_at dksX1_keep_4 10 rfl rfl)
theorem dX1_keep_104 : decode cX1_keep 104 = .ok (.goto 15, 3) := dk_167 0 15 (dk_at dksX1_keep_4 13 rfl rfl)
theorem dX1_keep_107 : decode cX1_keep 107 = .ok (.aload_n 0, 1) := dk_42 (dk_at dksX1_keep_4 16 rfl rfl)
theorem dX1_keep_108 : decode cX1_keep 108 = .ok (.getfield 28, 3) := dk_180 0 28 (dk_at dksX1_keep_4 17 rfl rfl)
theorem dX1_keep_111 : decode cX1_keep 111 = .ok (.iload_n 2, 1) := dk_28 (dk_at dksX1_keep_4 20 rfl rfl)
theorem dX1_keep_112 : decode cX1_keep 112 = .ok (.iconst 0, 1) := dk_3 (dk_at dksX1_keep_4 21 rfl rfl)
theorem dX1_keep_113 : decode cX1_keep 113 = .ok (.bastore, 1) := dk_84 (dk_at dksX1_keep_4 22 rfl rfl)
theorem dX1_keep_114 : decode cX1_keep 114 = .ok (.aload_n 0, 1) := dk_42 (dk_at dksX1_keep_4 23 rfl rfl)
theorem dX1_keep_115 : decode cX1_keep 115 = .ok (.iload_n 2, 1) := dk_28 (dk_at dksX1_keep_5 0 rfl rfl)
theorem dX1_keep_116 : decode cX1_keep 116 = .ok (.invokevirtual 202, 3) := dk_182 0 202 (dk_at dksX1_keep_5 1 rfl rfl)
theorem dX1_keep_119 : decode cX1_keep 119 = .ok (.return_, 1) := dk_177 (dk_at dksX1_keep_5 4 rfl rfl)
abbrev cX1_tell : ByteArray := prog_5_method_31_code
def yX1_tell : MethodName := ⟨RX1, "tell", "(III)V"⟩
def dkwX1_tell_2 : List UInt8 := [180, 1, 22, 79, 177]
abbrev dktX1_tell_2 : List UInt8 := dkwX1_tell_2 ++ []
def dkwX1_tell_1 : List UInt8 := [180, 0, 85, 5, 29, 79, 42, 180, 0, 85, 6, 42, 180, 1, 19, 79, 42, 180, 0, 85, 7, 42]
abbrev dktX1_tell_1 : List UInt8 := dkwX1_tell_1 ++ dktX1_tell_2
def dkwX1_tell_0 : List UInt8 := [42, 4, 181, 0, 187, 42, 180, 0, 85, 3, 42, 27, 182, 1, 76, 79, 42, 180, 0, 85, 4, 28, 79, 42]
abbrev dktX1_tell_0 : List UInt8 := dkwX1_tell_0 ++ dktX1_tell_1
theorem dksX1_tell_0 : cX1_tell.data.toList.drop 0 = dktX1_tell_0 := by decide +kernel
theorem dksX1_tell_1 : cX1_tell.data.toList.drop 24 = dktX1_tell_1 := dk_seg dksX1_tell_0 24 rfl rfl
theorem dksX1_tell_2 : cX1_tell.data.toList.drop 46 = dktX1_tell_2 := dk_seg dksX1_tell_1 22 rfl rfl
theorem dX1_tell_0 : decode cX1_tell 0 = .ok (.aload_n 0, 1) := dk_42 (dk_at dksX1_tell_0 0 rfl rfl)
theorem dX1_tell_1 : decode cX1_tell 1 = .ok (.iconst 1, 1) := dk_4 (dk_at dksX1_tell_0 1 rfl rfl)
theorem dX1_tell_2 : decode cX1_tell 2 = .ok (.putfield 187, 3) := dk_181 0 187 (dk_at dksX1_tell_0 2 rfl rfl)
theorem dX1_tell_5 : decode cX1_tell 5 = .ok (.aload_n 0, 1) := dk_42 (dk_at dksX1_tell_0 5 rfl rfl)
theorem dX1_tell_6 : decode cX1_tell 6 = .ok (.getfield 85, 3) := dk_180 0 85 (dk_at dksX1_tell_0 6 rfl rfl)
theorem dX1_tell_9 : decode cX1_tell 9 = .ok (.iconst 0, 1) := dk_3 (dk_at dksX1_tell_0 9 rfl rfl)
theorem dX1_tell_10 : decode cX1_tell 10 = .ok (.aload_n 0, 1) := dk_42 (dk_at dksX1_tell_0 10 rfl rfl)
theorem dX1_tell_11 : decode cX1_tell 11 = .ok (.iload_n 1, 1) := dk_27 (dk_at dksX1_tell_0 11 rfl rfl)
theorem dX1_tell_12 : decode cX1_tell 12 = .ok (.invokevirtual 332, 3) := dk_182 1 76 (dk_at dksX1_tell_0 12 rfl rfl)
theorem dX1_tell_15 : decode cX1_tell 15 = .ok (.iastore, 1) := dk_79 (dk_at dksX1_tell_0 15 rfl rfl)
theorem dX1_tell_16 : decode cX1_tell 16 = .ok (.aload_n 0, 1) := dk_42 (dk_at dksX1_tell_0 16 rfl rfl)
theorem dX1_tell_17 : decode cX1_tell 17 = .ok (.getfield 85, 3) := dk_180 0 85 (dk_at dksX1_tell_0 17 rfl rfl)
theorem dX1_tell_20 : decode cX1_tell 20 = .ok (.iconst 1, 1) := dk_4 (dk_at dksX1_tell_0 20 rfl rfl)
theorem dX1_tell_21 : decode cX1_tell 21 = .ok (.iload_n 2, 1) := dk_28 (dk_at dksX1_tell_0 21 rfl rfl)
theorem dX1_tell_22 : decode cX1_tell 22 = .ok (.iastore, 1) := dk_79 (dk_at dksX1_tell_0 22 rfl rfl)
theorem dX1_tell_23 : decode cX1_tell 23 = .ok (.aload_n 0, 1) := dk_42 (dk_at dksX1_tell_0 23 rfl rfl)
theorem dX1_tell_24 : decode cX1_tell 24 = .ok (.getfield 85, 3) := dk_180 0 85 (dk_at dksX1_tell_1 0 rfl rfl)
theorem dX1_tell_27 : decode cX1_tell 27 = .ok (.iconst 2, 1) := dk_5 (dk_at dksX1_tell_1 3 rfl rfl)
theorem dX1_tell_28 : decode cX1_tell 28 = .ok (.iload_n 3, 1) := dk_29 (dk_at dksX1_tell_1 4 rfl rfl)
theorem dX1_tell_29 : decode cX1_tell 29 = .ok (.iastore, 1) := dk_79 (dk_at dksX1_tell_1 5 rfl rfl)
theorem dX1_tell_30 : decode cX1_tell 30 = .ok (.aload_n 0, 1) := dk_42 (dk_at dksX1_tell_1 6 rfl rfl)
theorem dX1_tell_31 : decode cX1_tell 31 = .ok (.getfield 85, 3) := dk_180 0 85 (dk_at dksX1_tell_1 7 rfl rfl)
theorem dX1_tell_34 : decode cX1_tell 34 = .ok (.iconst 3, 1) := dk_6 (dk_at dksX1_tell_1 10 rfl rfl)
theorem dX1_tell_35 : decode cX1_tell 35 = .ok (.aload_n 0, 1) := dk_42 (dk_at dksX1_tell_1 11 rfl rfl)
theorem dX1_tell_36 : decode cX1_tell 36 = .ok (.getfield 275, 3) := dk_180 1 19 (dk_at dksX1_tell_1 12 rfl rfl)
theorem dX1_tell_39 : decode cX1_tell 39 = .ok (.iastore, 1) := dk_79 (dk_at dksX1_tell_1 15 rfl rfl)
theorem dX1_tell_40 : decode cX1_tell 40 = .ok (.aload_n 0, 1) := dk_42 (dk_at dksX1_tell_1 16 rfl rfl)
theorem dX1_tell_41 : decode cX1_tell 41 = .ok (.getfield 85, 3) := dk_180 0 85 (dk_at dksX1_tell_1 17 rfl rfl)
theorem dX1_tell_44 : decode cX1_tell 44 = .ok (.iconst 4, 1) := dk_7 (dk_at dksX1_tell_1 20 rfl rfl)
theorem dX1_tell_45 : decode cX1_tell 45 = .ok (.aload_n 0, 1) := dk_42 (dk_at dksX1_tell_1 21 rfl rfl)
theorem dX1_tell_46 : decode cX1_tell 46 = .ok (.getfield 278, 3) := dk_180 1 22 (dk_at dksX1_tell_2 0 rfl rfl)
theorem dX1_tell_49 : decode cX1_tell 49 = .ok (.iastore, 1) := dk_79 (dk_at dksX1_tell_2 3 rfl rfl)
theorem dX1_tell_50 : decode cX1_tell 50 = .ok (.return_, 1) := dk_177 (dk_at dksX1_tell_2 4 rfl rfl)
abbrev cX1_numberOf : ByteArray := prog_5_method_9_code
def yX1_numberOf : MethodName := ⟨RX1, "numberOf", "(I)I"⟩
def dkwX1_numberOf_1 : List UInt8 := [17, 1, 244, 100, 167, 0, 12, 17, 7, 208, 27, 96, 17, 2, 52, 100, 172]
abbrev dktX1_numberOf_1 : List UInt8 := dkwX1_numberOf_1 ++ []
def dkwX1_numberOf_0 : List UInt8 := [27, 17, 1, 244, 162, 0, 7, 27, 167, 0, 31, 27, 17, 2, 52, 162, 0, 15, 17, 3, 232, 27, 96]
abbrev dktX1_numberOf_0 : List UInt8 := dkwX1_numberOf_0 ++ dktX1_numberOf_1
theorem dksX1_numberOf_0 : cX1_numberOf.data.toList.drop 0 = dktX1_numberOf_0 := by decide +kernel
theorem dksX1_numberOf_1 : cX1_numberOf.data.toList.drop 23 = dktX1_numberOf_1 := dk_seg dksX1_numberOf_0 23 rfl rfl
theorem dX1_numberOf_0 : decode cX1_numberOf 0 = .ok (.iload_n 1, 1) := dk_27 (dk_at dksX1_numberOf_0 0 rfl rfl)
theorem dX1_numberOf_1 : decode cX1_numberOf 1 = .ok (.sipush 500, 3) := dk_17 1 244 (dk_at dksX1_numberOf_0 1 rfl rfl)
theorem dX1_numberOf_4 : decode cX1_numberOf 4 = .ok (.if_icmp .ge 7, 3) := dk_162 0 7 (dk_at dksX1_numberOf_0 4 rfl rfl)
theorem dX1_numberOf_7 : decode cX1_numberOf 7 = .ok (.iload_n 1, 1) := dk_27 (dk_at dksX1_numberOf_0 7 rfl rfl)
theorem dX1_numberOf_8 : decode cX1_numberOf 8 = .ok (.goto 31, 3) := dk_167 0 31 (dk_at dksX1_numberOf_0 8 rfl rfl)
theorem dX1_numberOf_11 : decode cX1_numberOf 11 = .ok (.iload_n 1, 1) := dk_27 (dk_at dksX1_numberOf_0 11 rfl rfl)
theorem dX1_numberOf_12 : decode cX1_numberOf 12 = .ok (.sipush 564, 3) := dk_17 2 52 (dk_at dksX1_numberOf_0 12 rfl rfl)
theorem dX1_numberOf_15 : decode cX1_numberOf 15 = .ok (.if_icmp .ge 15, 3) := dk_162 0 15 (dk_at dksX1_numberOf_0 15 rfl rfl)
theorem dX1_numberOf_18 : decode cX1_numberOf 18 = .ok (.sipush 1000, 3) := dk_17 3 232 (dk_at dksX1_numberOf_0 18 rfl rfl)
theorem dX1_numberOf_21 : decode cX1_numberOf 21 = .ok (.iload_n 1, 1) := dk_27 (dk_at dksX1_numberOf_0 21 rfl rfl)
theorem dX1_numberOf_22 : decode cX1_numberOf 22 = .ok (.iadd, 1) := dk_96 (dk_at dksX1_numberOf_0 22 rfl rfl)
theorem dX1_numberOf_23 : decode cX1_numberOf 23 = .ok (.sipush 500, 3) := dk_17 1 244 (dk_at dksX1_numberOf_1 0 rfl rfl)
theorem dX1_numberOf_26 : decode cX1_numberOf 26 = .ok (.isub, 1) := dk_100 (dk_at dksX1_numberOf_1 3 rfl rfl)
theorem dX1_numberOf_27 : decode cX1_numberOf 27 = .ok (.goto 12, 3) := dk_167 0 12 (dk_at dksX1_numberOf_1 4 rfl rfl)
theorem dX1_numberOf_30 : decode cX1_numberOf 30 = .ok (.sipush 2000, 3) := dk_17 7 208 (dk_at dksX1_numberOf_1 7 rfl rfl)
theorem dX1_numberOf_33 : decode cX1_numberOf 33 = .ok (.iload_n 1, 1) := dk_27 (dk_at dksX1_numberOf_1 10 rfl rfl)
theorem dX1_numberOf_34 : decode cX1_numberOf 34 = .ok (.iadd, 1) := dk_96 (dk_at dksX1_numberOf_1 11 rfl rfl)
theorem dX1_numberOf_35 : decode cX1_numberOf 35 = .ok (.sipush 564, 3) := dk_17 2 52 (dk_at dksX1_numberOf_1 12 rfl rfl)
theorem dX1_numberOf_38 : decode cX1_numberOf 38 = .ok (.isub, 1) := dk_100 (dk_at dksX1_numberOf_1 15 rfl rfl)
theorem dX1_numberOf_39 : decode cX1_numberOf 39 = .ok (.ireturn, 1) := dk_172 (dk_at dksX1_numberOf_1 16 rfl rfl)
abbrev cX1_learns : ByteArray := prog_5_method_30_code
def yX1_learns : MethodName := ⟨RX1, "learns", "(I)Z"⟩
def dkwX1_learns_8 : List UInt8 := [42, 4, 182, 1, 68, 42, 27, 28, 42, 180, 0, 139, 182, 1, 72, 4, 172]
abbrev dktX1_learns_8 : List UInt8 := dkwX1_learns_8 ++ []
def dkwX1_learns_7 : List UInt8 := [42, 89, 180, 0, 184, 4, 96, 181, 0, 184, 42, 89, 180, 0, 169, 4, 96, 181, 0, 169, 42, 182, 1, 65]
abbrev dktX1_learns_7 : List UInt8 := dkwX1_learns_7 ++ dktX1_learns_8
def dkwX1_learns_6 : List UInt8 := [180, 0, 3, 180, 1, 59, 42, 182, 1, 62, 104, 161, 0, 33, 42, 3, 182, 1, 56, 42, 3, 181, 0, 181]
abbrev dktX1_learns_6 : List UInt8 := dkwX1_learns_6 ++ dktX1_learns_7
def dkwX1_learns_5 : List UInt8 := [180, 0, 181, 4, 96, 181, 0, 181, 42, 180, 0, 3, 180, 1, 59, 158, 0, 52, 42, 180, 0, 181, 42]
abbrev dktX1_learns_5 : List UInt8 := dkwX1_learns_5 ++ dktX1_learns_6
def dkwX1_learns_4 : List UInt8 := [21, 4, 46, 184, 0, 219, 46, 184, 0, 237, 62, 132, 4, 1, 167, 255, 224, 42, 29, 182, 1, 56, 42, 89]
abbrev dktX1_learns_4 : List UInt8 := dkwX1_learns_4 ++ dktX1_learns_5
def dkwX1_learns_3 : List UInt8 := [61, 3, 62, 4, 54, 4, 21, 4, 42, 180, 1, 22, 162, 0, 29, 29, 42, 180, 0, 51, 42, 180, 0, 103]
abbrev dktX1_learns_3 : List UInt8 := dkwX1_learns_3 ++ dktX1_learns_4
def dkwX1_learns_2 : List UInt8 := [180, 0, 75, 42, 180, 0, 109, 28, 46, 92, 46, 4, 96, 79, 132, 2, 1, 167, 255, 230, 42, 180, 0, 139]
abbrev dktX1_learns_2 : List UInt8 := dkwX1_learns_2 ++ dktX1_learns_3
def dkwX1_learns_1 : List UInt8 := [180, 0, 166, 4, 96, 181, 0, 166, 42, 182, 1, 53, 3, 61, 28, 42, 180, 1, 16, 162, 0, 24, 42]
abbrev dktX1_learns_1 : List UInt8 := dkwX1_learns_1 ++ dktX1_learns_2
def dkwX1_learns_0 : List UInt8 := [42, 27, 182, 1, 47, 42, 42, 180, 1, 22, 182, 1, 50, 154, 0, 5, 3, 172, 42, 182, 1, 7, 42, 89]
abbrev dktX1_learns_0 : List UInt8 := dkwX1_learns_0 ++ dktX1_learns_1
theorem dksX1_learns_0 : cX1_learns.data.toList.drop 0 = dktX1_learns_0 := by decide +kernel
theorem dksX1_learns_1 : cX1_learns.data.toList.drop 24 = dktX1_learns_1 := dk_seg dksX1_learns_0 24 rfl rfl
theorem dksX1_learns_2 : cX1_learns.data.toList.drop 47 = dktX1_learns_2 := dk_seg dksX1_learns_1 23 rfl rfl
theorem dksX1_learns_3 : cX1_learns.data.toList.drop 71 = dktX1_learns_3 := dk_seg dksX1_learns_2 24 rfl rfl
theorem dksX1_learns_4 : cX1_learns.data.toList.drop 95 = dktX1_learns_4 := dk_seg dksX1_learns_3 24 rfl rfl
theorem dksX1_learns_5 : cX1_learns.data.toList.drop 119 = dktX1_learns_5 := dk_seg dksX1_learns_4 24 rfl rfl
theorem dksX1_learns_6 : cX1_learns.data.toList.drop 142 = dktX1_learns_6 := dk_seg dksX1_learns_5 23 rfl rfl
theorem dksX1_learns_7 : cX1_learns.data.toList.drop 166 = dktX1_learns_7 := dk_seg dksX1_learns_6 24 rfl rfl
theorem dksX1_learns_8 : cX1_learns.data.toList.drop 190 = dktX1_learns_8 := dk_seg dksX1_learns_7 24 rfl rfl
theorem dX1_learns_0 : decode cX1_learns 0 = .ok (.aload_n 0, 1) := dk_42 (dk_at dksX1_learns_0 0 rfl rfl)
theorem dX1_learns_1 : decode cX1_learns 1 = .ok (.iload_n 1, 1) := dk_27 (dk_at dksX1_learns_0 1 rfl rfl)
theorem dX1_learns_2 : decode cX1_learns 2 = .ok (.invokevirtual 303, 3) := dk_182 1 47 (dk_at dksX1_learns_0 2 rfl rfl)
theorem dX1_learns_5 : decode cX1_learns 5 = .ok (.aload_n 0, 1) := dk_42 (dk_at dksX1_learns_0 5 rfl rfl)
theorem dX1_learns_6 : decode cX1_learns 6 = .ok (.aload_n 0, 1) := dk_42 (dk_at dksX1_learns_0 6 rfl rfl)
theorem dX1_learns_7 : decode cX1_learns 7 = .ok (.getfield 278, 3) := dk_180 1 22 (dk_at dksX1_learns_0 7 rfl rfl)
theorem dX1_learns_10 : decode cX1_learns 10 = .ok (.invokevirtual 306, 3) := dk_182 1 50 (dk_at dksX1_learns_0 10 rfl rfl)
theorem dX1_learns_13 : decode cX1_learns 13 = .ok (.ifCond .ne 5, 3) := dk_154 0 5 (dk_at dksX1_learns_0 13 rfl rfl)
theorem dX1_learns_16 : decode cX1_learns 16 = .ok (.iconst 0, 1) := dk_3 (dk_at dksX1_learns_0 16 rfl rfl)
theorem dX1_learns_17 : decode cX1_learns 17 = .ok (.ireturn, 1) := dk_172 (dk_at dksX1_learns_0 17 rfl rfl)
theorem dX1_learns_18 : decode cX1_learns 18 = .ok (.aload_n 0, 1) := dk_42 (dk_at dksX1_learns_0 18 rfl rfl)
theorem dX1_learns_19 : decode cX1_learns 19 = .ok (.invokevirtual 263, 3) := dk_182 1 7 (dk_at dksX1_learns_0 19 rfl rfl)
theorem dX1_learns_22 : decode cX1_learns 22 = .ok (.aload_n 0, 1) := dk_42 (dk_at dksX1_learns_0 22 rfl rfl)
theorem dX1_learns_23 : decode cX1_learns 23 = .ok (.dup, 1) := dk_89 (dk_at dksX1_learns_0 23 rfl rfl)
theorem dX1_learns_24 : decode cX1_learns 24 = .ok (.getfield 166, 3) := dk_180 0 166 (dk_at dksX1_learns_1 0 rfl rfl)
theorem dX1_learns_27 : decode cX1_learns 27 = .ok (.iconst 1, 1) := dk_4 (dk_at dksX1_learns_1 3 rfl rfl)
theorem dX1_learns_28 : decode cX1_learns 28 = .ok (.iadd, 1) := dk_96 (dk_at dksX1_learns_1 4 rfl rfl)
theorem dX1_learns_29 : decode cX1_learns 29 = .ok (.putfield 166, 3) := dk_181 0 166 (dk_at dksX1_learns_1 5 rfl rfl)
theorem dX1_learns_32 : decode cX1_learns 32 = .ok (.aload_n 0, 1) := dk_42 (dk_at dksX1_learns_1 8 rfl rfl)
theorem dX1_learns_33 : decode cX1_learns 33 = .ok (.invokevirtual 309, 3) := dk_182 1 53 (dk_at dksX1_learns_1 9 rfl rfl)
theorem dX1_learns_36 : decode cX1_learns 36 = .ok (.iconst 0, 1) := dk_3 (dk_at dksX1_learns_1 12 rfl rfl)
theorem dX1_learns_37 : decode cX1_learns 37 = .ok (.istore_n 2, 1) := dk_61 (dk_at dksX1_learns_1 13 rfl rfl)
theorem dX1_learns_38 : decode cX1_learns 38 = .ok (.iload_n 2, 1) := dk_28 (dk_at dksX1_learns_1 14 rfl rfl)
theorem dX1_learns_39 : decode cX1_learns 39 = .ok (.aload_n 0, 1) := dk_42 (dk_at dksX1_learns_1 15 rfl rfl)
theorem dX1_learns_40 : decode cX1_learns 40 = .ok (.getfield 272, 3) := dk_180 1 16 (dk_at dksX1_learns_1 16 rfl rfl)
theorem dX1_learns_43 : decode cX1_learns 43 = .ok (.if_icmp .ge 24, 3) := dk_162 0 24 (dk_at dksX1_learns_1 19 rfl rfl)
theorem dX1_learns_46 : decode cX1_learns 46 = .ok (.aload_n 0, 1) := dk_42 (dk_at dksX1_learns_1 22 rfl rfl)
theorem dX1_learns_47 : decode cX1_learns 47 = .ok (.getfield 75, 3) := dk_180 0 75 (dk_at dksX1_learns_2 0 rfl rfl)
theorem dX1_learns_50 : decode cX1_learns 50 = .ok (.aload_n 0, 1) := dk_42 (dk_at dksX1_learns_2 3 rfl rfl)
theorem dX1_learns_51 : decode cX1_learns 51 = .ok (.getfield 109, 3) := dk_180 0 109 (dk_at dksX1_learns_2 4 rfl rfl)
theorem dX1_learns_54 : decode cX1_learns 54 = .ok (.iload_n 2, 1) := dk_28 (dk_at dksX1_learns_2 7 rfl rfl)
theorem dX1_learns_55 : decode cX1_learns 55 = .ok (.iaload, 1) := dk_46 (dk_at dksX1_learns_2 8 rfl rfl)
theorem dX1_learns_56 : decode cX1_learns 56 = .ok (.dup2, 1) := dk_92 (dk_at dksX1_learns_2 9 rfl rfl)
theorem dX1_learns_57 : decode cX1_learns 57 = .ok (.iaload, 1) := dk_46 (dk_at dksX1_learns_2 10 rfl rfl)
theorem dX1_learns_58 : decode cX1_learns 58 = .ok (.iconst 1, 1) := dk_4 (dk_at dksX1_learns_2 11 rfl rfl)
theorem dX1_learns_59 : decode cX1_learns 59 = .ok (.iadd, 1) := dk_96 (dk_at dksX1_learns_2 12 rfl rfl)
theorem dX1_learns_60 : decode cX1_learns 60 = .ok (.iastore, 1) := dk_79 (dk_at dksX1_learns_2 13 rfl rfl)
theorem dX1_learns_61 : decode cX1_learns 61 = .ok (.iinc 2 1, 3) := dk_132 2 1 (dk_at dksX1_learns_2 14 rfl rfl)
theorem dX1_learns_64 : decode cX1_learns 64 = .ok (.goto (-26), 3) := dk_167 255 230 (dk_at dksX1_learns_2 17 rfl rfl)
theorem dX1_learns_67 : decode cX1_learns 67 = .ok (.aload_n 0, 1) := dk_42 (dk_at dksX1_learns_2 20 rfl rfl)
theorem dX1_learns_68 : decode cX1_learns 68 = .ok (.getfield 139, 3) := dk_180 0 139 (dk_at dksX1_learns_2 21 rfl rfl)
theorem dX1_learns_71 : decode cX1_learns 71 = .ok (.istore_n 2, 1) := dk_61 (dk_at dksX1_learns_3 0 rfl rfl)
theorem dX1_learns_72 : decode cX1_learns 72 = .ok (.iconst 0, 1) := dk_3 (dk_at dksX1_learns_3 1 rfl rfl)
theorem dX1_learns_73 : decode cX1_learns 73 = .ok (.istore_n 3, 1) := dk_62 (dk_at dksX1_learns_3 2 rfl rfl)
theorem dX1_learns_74 : decode cX1_learns 74 = .ok (.iconst 1, 1) := dk_4 (dk_at dksX1_learns_3 3 rfl rfl)
theorem dX1_learns_75 : decode cX1_learns 75 = .ok (.istore 4, 2) := dk_54 4 (dk_at dksX1_learns_3 4 rfl rfl)
theorem dX1_learns_77 : decode cX1_learns 77 = .ok (.iload 4, 2) := dk_21 4 (dk_at dksX1_learns_3 6 rfl rfl)
theorem dX1_learns_79 : decode cX1_learns 79 = .ok (.aload_n 0, 1) := dk_42 (dk_at dksX1_learns_3 8 rfl rfl)
theorem dX1_learns_80 : decode cX1_learns 80 = .ok (.getfield 278, 3) := dk_180 1 22 (dk_at dksX1_learns_3 9 rfl rfl)
theorem dX1_learns_83 : decode cX1_learns 83 = .ok (.if_icmp .ge 29, 3) := dk_162 0 29 (dk_at dksX1_learns_3 12 rfl rfl)
theorem dX1_learns_86 : decode cX1_learns 86 = .ok (.iload_n 3, 1) := dk_29 (dk_at dksX1_learns_3 15 rfl rfl)
theorem dX1_learns_87 : decode cX1_learns 87 = .ok (.aload_n 0, 1) := dk_42 (dk_at dksX1_learns_3 16 rfl rfl)
theorem dX1_learns_88 : decode cX1_learns 88 = .ok (.getfield 51, 3) := dk_180 0 51 (dk_at dksX1_learns_3 17 rfl rfl)
theorem dX1_learns_91 : decode cX1_learns 91 = .ok (.aload_n 0, 1) := dk_42 (dk_at dksX1_learns_3 20 rfl rfl)
theorem dX1_learns_92 : decode cX1_learns 92 = .ok (.getfield 103, 3) := dk_180 0 103 (dk_at dksX1_learns_3 21 rfl rfl)
theorem dX1_learns_95 : decode cX1_learns 95 = .ok (.iload 4, 2) := dk_21 4 (dk_at dksX1_learns_4 0 rfl rfl)
theorem dX1_learns_97 : decode cX1_learns 97 = .ok (.iaload, 1) := dk_46 (dk_at dksX1_learns_4 2 rfl rfl)
theorem dX1_learns_98 : decode cX1_learns 98 = .ok (.invokestatic 219, 3) := dk_184 0 219 (dk_at dksX1_learns_4 3 rfl rfl)
theorem dX1_learns_101 : decode cX1_learns 101 = .ok (.iaload, 1) := dk_46 (dk_at dksX1_learns_4 6 rfl rfl)
theorem dX1_learns_102 : decode cX1_learns 102 = .ok (.invokestatic 237, 3) := dk_184 0 237 (dk_at dksX1_learns_4 7 rfl rfl)
theorem dX1_learns_105 : decode cX1_learns 105 = .ok (.istore_n 3, 1) := dk_62 (dk_at dksX1_learns_4 10 rfl rfl)
theorem dX1_learns_106 : decode cX1_learns 106 = .ok (.iinc 4 1, 3) := dk_132 4 1 (dk_at dksX1_learns_4 11 rfl rfl)
theorem dX1_learns_109 : decode cX1_learns 109 = .ok (.goto (-32), 3) := dk_167 255 224 (dk_at dksX1_learns_4 14 rfl rfl)
theorem dX1_learns_112 : decode cX1_learns 112 = .ok (.aload_n 0, 1) := dk_42 (dk_at dksX1_learns_4 17 rfl rfl)
theorem dX1_learns_113 : decode cX1_learns 113 = .ok (.iload_n 3, 1) := dk_29 (dk_at dksX1_learns_4 18 rfl rfl)
theorem dX1_learns_114 : decode cX1_learns 114 = .ok (.invokevirtual 312, 3) := dk_182 1 56 (dk_at dksX1_learns_4 19 rfl rfl)
theorem dX1_learns_117 : decode cX1_learns 117 = .ok (.aload_n 0, 1) := dk_42 (dk_at dksX1_learns_4 22 rfl rfl)
theorem dX1_learns_118 : decode cX1_learns 118 = .ok (.dup, 1) := dk_89 (dk_at dksX1_learns_4 23 rfl rfl)
theorem dX1_learns_119 : decode cX1_learns 119 = .ok (.getfield 181, 3) := dk_180 0 181 (dk_at dksX1_learns_5 0 rfl rfl)
theorem dX1_learns_122 : decode cX1_learns 122 = .ok (.iconst 1, 1) := dk_4 (dk_at dksX1_learns_5 3 rfl rfl)
theorem dX1_learns_123 : decode cX1_learns 123 = .ok (.iadd, 1) := dk_96 (dk_at dksX1_learns_5 4 rfl rfl)
theorem dX1_learns_124 : decode cX1_learns 124 = .ok (.putfield 181, 3) := dk_181 0 181 (dk_at dksX1_learns_5 5 rfl rfl)
theorem dX1_learns_127 : decode cX1_learns 127 = .ok (.aload_n 0, 1) := dk_42 (dk_at dksX1_learns_5 8 rfl rfl)
theorem dX1_learns_128 : decode cX1_learns 128 = .ok (.getfield 3, 3) := dk_180 0 3 (dk_at dksX1_learns_5 9 rfl rfl)
theorem dX1_learns_131 : decode cX1_learns 131 = .ok (.getfield 315, 3) := dk_180 1 59 (dk_at dksX1_learns_5 12 rfl rfl)
theorem dX1_learns_134 : decode cX1_learns 134 = .ok (.ifCond .le 52, 3) := dk_158 0 52 (dk_at dksX1_learns_5 15 rfl rfl)
theorem dX1_learns_137 : decode cX1_learns 137 = .ok (.aload_n 0, 1) := dk_42 (dk_at dksX1_learns_5 18 rfl rfl)
theorem dX1_learns_138 : decode cX1_learns 138 = .ok (.getfield 181, 3) := dk_180 0 181 (dk_at dksX1_learns_5 19 rfl rfl)
theorem dX1_learns_141 : decode cX1_learns 141 = .ok (.aload_n 0, 1) := dk_42 (dk_at dksX1_learns_5 22 rfl rfl)
theorem dX1_learns_142 : decode cX1_learns 142 = .ok (.getfield 3, 3) := dk_180 0 3 (dk_at dksX1_learns_6 0 rfl rfl)
theorem dX1_learns_145 : decode cX1_learns 145 = .ok (.getfield 315, 3) := dk_180 1 59 (dk_at dksX1_learns_6 3 rfl rfl)
theorem dX1_learns_148 : decode cX1_learns 148 = .ok (.aload_n 0, 1) := dk_42 (dk_at dksX1_learns_6 6 rfl rfl)
theorem dX1_learns_149 : decode cX1_learns 149 = .ok (.invokevirtual 318, 3) := dk_182 1 62 (dk_at dksX1_learns_6 7 rfl rfl)
theorem dX1_learns_152 : decode cX1_learns 152 = .ok (.imul, 1) := dk_104 (dk_at dksX1_learns_6 10 rfl rfl)
theorem dX1_learns_153 : decode cX1_learns 153 = .ok (.if_icmp .lt 33, 3) := dk_161 0 33 (dk_at dksX1_learns_6 11 rfl rfl)
theorem dX1_learns_156 : decode cX1_learns 156 = .ok (.aload_n 0, 1) := dk_42 (dk_at dksX1_learns_6 14 rfl rfl)
theorem dX1_learns_157 : decode cX1_learns 157 = .ok (.iconst 0, 1) := dk_3 (dk_at dksX1_learns_6 15 rfl rfl)
theorem dX1_learns_158 : decode cX1_learns 158 = .ok (.invokevirtual 312, 3) := dk_182 1 56 (dk_at dksX1_learns_6 16 rfl rfl)
theorem dX1_learns_161 : decode cX1_learns 161 = .ok (.aload_n 0, 1) := dk_42 (dk_at dksX1_learns_6 19 rfl rfl)
theorem dX1_learns_162 : decode cX1_learns 162 = .ok (.iconst 0, 1) := dk_3 (dk_at dksX1_learns_6 20 rfl rfl)
theorem dX1_learns_163 : decode cX1_learns 163 = .ok (.putfield 181, 3) := dk_181 0 181 (dk_at dksX1_learns_6 21 rfl rfl)
theorem dX1_learns_166 : decode cX1_learns 166 = .ok (.aload_n 0, 1) := dk_42 (dk_at dksX1_learns_7 0 rfl rfl)
theorem dX1_learns_167 : decode cX1_learns 167 = .ok (.dup, 1) := dk_89 (dk_at dksX1_learns_7 1 rfl rfl)
theorem dX1_learns_168 : decode cX1_learns 168 = .ok (.getfield 184, 3) := dk_180 0 184 (dk_at dksX1_learns_7 2 rfl rfl)
theorem dX1_learns_171 : decode cX1_learns 171 = .ok (.iconst 1, 1) := dk_4 (dk_at dksX1_learns_7 5 rfl rfl)
theorem dX1_learns_172 : decode cX1_learns 172 = .ok (.iadd, 1) := dk_96 (dk_at dksX1_learns_7 6 rfl rfl)
theorem dX1_learns_173 : decode cX1_learns 173 = .ok (.putfield 184, 3) := dk_181 0 184 (dk_at dksX1_learns_7 7 rfl rfl)
theorem dX1_learns_176 : decode cX1_learns 176 = .ok (.aload_n 0, 1) := dk_42 (dk_at dksX1_learns_7 10 rfl rfl)
theorem dX1_learns_177 : decode cX1_learns 177 = .ok (.dup, 1) := dk_89 (dk_at dksX1_learns_7 11 rfl rfl)
theorem dX1_learns_178 : decode cX1_learns 178 = .ok (.getfield 169, 3) := dk_180 0 169 (dk_at dksX1_learns_7 12 rfl rfl)
theorem dX1_learns_181 : decode cX1_learns 181 = .ok (.iconst 1, 1) := dk_4 (dk_at dksX1_learns_7 15 rfl rfl)
theorem dX1_learns_182 : decode cX1_learns 182 = .ok (.iadd, 1) := dk_96 (dk_at dksX1_learns_7 16 rfl rfl)
theorem dX1_learns_183 : decode cX1_learns 183 = .ok (.putfield 169, 3) := dk_181 0 169 (dk_at dksX1_learns_7 17 rfl rfl)
theorem dX1_learns_186 : decode cX1_learns 186 = .ok (.aload_n 0, 1) := dk_42 (dk_at dksX1_learns_7 20 rfl rfl)
theorem dX1_learns_187 : decode cX1_learns 187 = .ok (.invokevirtual 321, 3) := dk_182 1 65 (dk_at dksX1_learns_7 21 rfl rfl)
theorem dX1_learns_190 : decode cX1_learns 190 = .ok (.aload_n 0, 1) := dk_42 (dk_at dksX1_learns_8 0 rfl rfl)
theorem dX1_learns_191 : decode cX1_learns 191 = .ok (.iconst 1, 1) := dk_4 (dk_at dksX1_learns_8 1 rfl rfl)
theorem dX1_learns_192 : decode cX1_learns 192 = .ok (.invokevirtual 324, 3) := dk_182 1 68 (dk_at dksX1_learns_8 2 rfl rfl)
theorem dX1_learns_195 : decode cX1_learns 195 = .ok (.aload_n 0, 1) := dk_42 (dk_at dksX1_learns_8 5 rfl rfl)
theorem dX1_learns_196 : decode cX1_learns 196 = .ok (.iload_n 1, 1) := dk_27 (dk_at dksX1_learns_8 6 rfl rfl)
theorem dX1_learns_197 : decode cX1_learns 197 = .ok (.iload_n 2, 1) := dk_28 (dk_at dksX1_learns_8 7 rfl rfl)
theorem dX1_learns_198 : decode cX1_learns 198 = .ok (.aload_n 0, 1) := dk_42 (dk_at dksX1_learns_8 8 rfl rfl)
theorem dX1_learns_199 : decode cX1_learns 199 = .ok (.getfield 139, 3) := dk_180 0 139 (dk_at dksX1_learns_8 9 rfl rfl)
theorem dX1_learns_202 : decode cX1_learns 202 = .ok (.invokevirtual 328, 3) := dk_182 1 72 (dk_at dksX1_learns_8 12 rfl rfl)
theorem dX1_learns_205 : decode cX1_learns 205 = .ok (.iconst 1, 1) := dk_4 (dk_at dksX1_learns_8 15 rfl rfl)
theorem dX1_learns_206 : decode cX1_learns 206 = .ok (.ireturn, 1) := dk_172 (dk_at dksX1_learns_8 16 rfl rfl)
abbrev cX1_learn : ByteArray := prog_5_method_23_code
def yX1_learn : MethodName := ⟨RX1, "learn", "(I)V"⟩
def dkwX1_learn_7 : List UInt8 := [180, 0, 66, 21, 5, 46, 116, 79, 132, 5, 255, 167, 255, 206, 177]
abbrev dktX1_learn_7 : List UInt8 := dkwX1_learn_7 ++ []
def dkwX1_learn_6 : List UInt8 := [184, 0, 219, 51, 153, 0, 27, 42, 180, 0, 103, 42, 89, 180, 1, 22, 90, 4, 96, 181, 1, 22, 42]
abbrev dktX1_learn_6 : List UInt8 := dkwX1_learn_6 ++ dktX1_learn_7
def dkwX1_learn_5 : List UInt8 := [167, 255, 169, 21, 4, 54, 5, 21, 5, 155, 0, 51, 42, 180, 0, 94, 42, 180, 0, 66, 21, 5, 46]
abbrev dktX1_learn_5 : List UInt8 := dkwX1_learn_5 ++ dktX1_learn_6
def dkwX1_learn_4 : List UInt8 := [180, 0, 54, 21, 5, 46, 21, 5, 42, 180, 0, 139, 182, 1, 28, 4, 100, 96, 61, 132, 3, 255]
abbrev dktX1_learn_4 : List UInt8 := dkwX1_learn_4 ++ dktX1_learn_5
def dkwX1_learn_3 : List UInt8 := [28, 4, 160, 0, 9, 29, 54, 4, 167, 0, 33, 42, 180, 0, 94, 21, 5, 3, 84, 28, 42, 42]
abbrev dktX1_learn_3 : List UInt8 := dkwX1_learn_3 ++ dktX1_learn_4
def dkwX1_learn_2 : List UInt8 := [42, 180, 0, 94, 21, 5, 51, 153, 0, 58, 42, 180, 0, 51, 21, 5, 46, 42, 180, 0, 139, 160, 0, 44]
abbrev dktX1_learn_2 : List UInt8 := dkwX1_learn_2 ++ dktX1_learn_3
def dkwX1_learn_1 : List UInt8 := [17, 252, 19, 54, 4, 21, 4, 17, 252, 19, 160, 0, 85, 42, 180, 0, 66, 29, 46, 184, 0, 219, 54, 5]
abbrev dktX1_learn_1 : List UInt8 := dkwX1_learn_1 ++ dktX1_learn_2
def dkwX1_learn_0 : List UInt8 := [42, 182, 1, 25, 42, 27, 3, 42, 180, 0, 139, 182, 1, 28, 61, 42, 180, 0, 136, 4, 100, 62]
abbrev dktX1_learn_0 : List UInt8 := dkwX1_learn_0 ++ dktX1_learn_1
theorem dksX1_learn_0 : cX1_learn.data.toList.drop 0 = dktX1_learn_0 := by decide +kernel
theorem dksX1_learn_1 : cX1_learn.data.toList.drop 22 = dktX1_learn_1 := dk_seg dksX1_learn_0 22 rfl rfl
theorem dksX1_learn_2 : cX1_learn.data.toList.drop 46 = dktX1_learn_2 := dk_seg dksX1_learn_1 24 rfl rfl
theorem dksX1_learn_3 : cX1_learn.data.toList.drop 70 = dktX1_learn_3 := dk_seg dksX1_learn_2 24 rfl rfl
theorem dksX1_learn_4 : cX1_learn.data.toList.drop 92 = dktX1_learn_4 := dk_seg dksX1_learn_3 22 rfl rfl
theorem dksX1_learn_5 : cX1_learn.data.toList.drop 114 = dktX1_learn_5 := dk_seg dksX1_learn_4 22 rfl rfl
theorem dksX1_learn_6 : cX1_learn.data.toList.drop 137 = dktX1_learn_6 := dk_seg dksX1_learn_5 23 rfl rfl
theorem dksX1_learn_7 : cX1_learn.data.toList.drop 160 = dktX1_learn_7 := dk_seg dksX1_learn_6 23 rfl rfl
theorem dX1_learn_0 : decode cX1_learn 0 = .ok (.aload_n 0, 1) := dk_42 (dk_at dksX1_learn_0 0 rfl rfl)
theorem dX1_learn_1 : decode cX1_learn 1 = .ok (.invokevirtual 281, 3) := dk_182 1 25 (dk_at dksX1_learn_0 1 rfl rfl)
theorem dX1_learn_4 : decode cX1_learn 4 = .ok (.aload_n 0, 1) := dk_42 (dk_at dksX1_learn_0 4 rfl rfl)
theorem dX1_learn_5 : decode cX1_learn 5 = .ok (.iload_n 1, 1) := dk_27 (dk_at dksX1_learn_0 5 rfl rfl)
theorem dX1_learn_6 : decode cX1_learn 6 = .ok (.iconst 0, 1) := dk_3 (dk_at dksX1_learn_0 6 rfl rfl)
theorem dX1_learn_7 : decode cX1_learn 7 = .ok (.aload_n 0, 1) := dk_42 (dk_at dksX1_learn_0 7 rfl rfl)
theorem dX1_learn_8 : decode cX1_learn 8 = .ok (.getfield 139, 3) := dk_180 0 139 (dk_at dksX1_learn_0 8 rfl rfl)
theorem dX1_learn_11 : decode cX1_learn 11 = .ok (.invokevirtual 284, 3) := dk_182 1 28 (dk_at dksX1_learn_0 11 rfl rfl)
theorem dX1_learn_14 : decode cX1_learn 14 = .ok (.istore_n 2, 1) := dk_61 (dk_at dksX1_learn_0 14 rfl rfl)
theorem dX1_learn_15 : decode cX1_learn 15 = .ok (.aload_n 0, 1) := dk_42 (dk_at dksX1_learn_0 15 rfl rfl)
theorem dX1_learn_16 : decode cX1_learn 16 = .ok (.getfield 136, 3) := dk_180 0 136 (dk_at dksX1_learn_0 16 rfl rfl)
theorem dX1_learn_19 : decode cX1_learn 19 = .ok (.iconst 1, 1) := dk_4 (dk_at dksX1_learn_0 19 rfl rfl)
theorem dX1_learn_20 : decode cX1_learn 20 = .ok (.isub, 1) := dk_100 (dk_at dksX1_learn_0 20 rfl rfl)
theorem dX1_learn_21 : decode cX1_learn 21 = .ok (.istore_n 3, 1) := dk_62 (dk_at dksX1_learn_0 21 rfl rfl)
theorem dX1_learn_22 : decode cX1_learn 22 = .ok (.sipush (-1005), 3) := dk_17 252 19 (dk_at dksX1_learn_1 0 rfl rfl)
theorem dX1_learn_25 : decode cX1_learn 25 = .ok (.istore 4, 2) := dk_54 4 (dk_at dksX1_learn_1 3 rfl rfl)
theorem dX1_learn_27 : decode cX1_learn 27 = .ok (.iload 4, 2) := dk_21 4 (dk_at dksX1_learn_1 5 rfl rfl)
theorem dX1_learn_29 : decode cX1_learn 29 = .ok (.sipush (-1005), 3) := dk_17 252 19 (dk_at dksX1_learn_1 7 rfl rfl)
theorem dX1_learn_32 : decode cX1_learn 32 = .ok (.if_icmp .ne 85, 3) := dk_160 0 85 (dk_at dksX1_learn_1 10 rfl rfl)
theorem dX1_learn_35 : decode cX1_learn 35 = .ok (.aload_n 0, 1) := dk_42 (dk_at dksX1_learn_1 13 rfl rfl)
theorem dX1_learn_36 : decode cX1_learn 36 = .ok (.getfield 66, 3) := dk_180 0 66 (dk_at dksX1_learn_1 14 rfl rfl)
theorem dX1_learn_39 : decode cX1_learn 39 = .ok (.iload_n 3, 1) := dk_29 (dk_at dksX1_learn_1 17 rfl rfl)
theorem dX1_learn_40 : decode cX1_learn 40 = .ok (.iaload, 1) := dk_46 (dk_at dksX1_learn_1 18 rfl rfl)
theorem dX1_learn_41 : decode cX1_learn 41 = .ok (.invokestatic 219, 3) := dk_184 0 219 (dk_at dksX1_learn_1 19 rfl rfl)
theorem dX1_learn_44 : decode cX1_learn 44 = .ok (.istore 5, 2) := dk_54 5 (dk_at dksX1_learn_1 22 rfl rfl)
theorem dX1_learn_46 : decode cX1_learn 46 = .ok (.aload_n 0, 1) := dk_42 (dk_at dksX1_learn_2 0 rfl rfl)
theorem dX1_learn_47 : decode cX1_learn 47 = .ok (.getfield 94, 3) := dk_180 0 94 (dk_at dksX1_learn_2 1 rfl rfl)
theorem dX1_learn_50 : decode cX1_learn 50 = .ok (.iload 5, 2) := dk_21 5 (dk_at dksX1_learn_2 4 rfl rfl)
theorem dX1_learn_52 : decode cX1_learn 52 = .ok (.baload, 1) := dk_51 (dk_at dksX1_learn_2 6 rfl rfl)
theorem dX1_learn_53 : decode cX1_learn 53 = .ok (.ifCond .eq 58, 3) := dk_153 0 58 (dk_at dksX1_learn_2 7 rfl rfl)
theorem dX1_learn_56 : decode cX1_learn 56 = .ok (.aload_n 0, 1) := dk_42 (dk_at dksX1_learn_2 10 rfl rfl)
theorem dX1_learn_57 : decode cX1_learn 57 = .ok (.getfield 51, 3) := dk_180 0 51 (dk_at dksX1_learn_2 11 rfl rfl)
theorem dX1_learn_60 : decode cX1_learn 60 = .ok (.iload 5, 2) := dk_21 5 (dk_at dksX1_learn_2 14 rfl rfl)
theorem dX1_learn_62 : decode cX1_learn 62 = .ok (.iaload, 1) := dk_46 (dk_at dksX1_learn_2 16 rfl rfl)
theorem dX1_learn_63 : decode cX1_learn 63 = .ok (.aload_n 0, 1) := dk_42 (dk_at dksX1_learn_2 17 rfl rfl)
theorem dX1_learn_64 : decode cX1_learn 64 = .ok (.getfield 139, 3) := dk_180 0 139 (dk_at dksX1_learn_2 18 rfl rfl)
theorem dX1_learn_67 : decode cX1_learn 67 = .ok (.if_icmp .ne 44, 3) := dk_160 0 44 (dk_at dksX1_learn_2 21 rfl rfl)
theorem dX1_learn_70 : decode cX1_learn 70 = .ok (.iload_n 2, 1) := dk_28 (dk_at dksX1_learn_3 0 rfl rfl)
theorem dX1_learn_71 : decode cX1_learn 71 = .ok (.iconst 1, 1) := dk_4 (dk_at dksX1_learn_3 1 rfl rfl)
theorem dX1_learn_72 : decode cX1_learn 72 = .ok (.if_icmp .ne 9, 3) := dk_160 0 9 (dk_at dksX1_learn_3 2 rfl rfl)
theorem dX1_learn_75 : decode cX1_learn 75 = .ok (.iload_n 3, 1) := dk_29 (dk_at dksX1_learn_3 5 rfl rfl)
theorem dX1_learn_76 : decode cX1_learn 76 = .ok (.istore 4, 2) := dk_54 4 (dk_at dksX1_learn_3 6 rfl rfl)
theorem dX1_learn_78 : decode cX1_learn 78 = .ok (.goto 33, 3) := dk_167 0 33 (dk_at dksX1_learn_3 8 rfl rfl)
theorem dX1_learn_81 : decode cX1_learn 81 = .ok (.aload_n 0, 1) := dk_42 (dk_at dksX1_learn_3 11 rfl rfl)
theorem dX1_learn_82 : decode cX1_learn 82 = .ok (.getfield 94, 3) := dk_180 0 94 (dk_at dksX1_learn_3 12 rfl rfl)
theorem dX1_learn_85 : decode cX1_learn 85 = .ok (.iload 5, 2) := dk_21 5 (dk_at dksX1_learn_3 15 rfl rfl)
theorem dX1_learn_87 : decode cX1_learn 87 = .ok (.iconst 0, 1) := dk_3 (dk_at dksX1_learn_3 17 rfl rfl)
theorem dX1_learn_88 : decode cX1_learn 88 = .ok (.bastore, 1) := dk_84 (dk_at dksX1_learn_3 18 rfl rfl)
theorem dX1_learn_89 : decode cX1_learn 89 = .ok (.iload_n 2, 1) := dk_28 (dk_at dksX1_learn_3 19 rfl rfl)
theorem dX1_learn_90 : decode cX1_learn 90 = .ok (.aload_n 0, 1) := dk_42 (dk_at dksX1_learn_3 20 rfl rfl)
theorem dX1_learn_91 : decode cX1_learn 91 = .ok (.aload_n 0, 1) := dk_42 (dk_at dksX1_learn_3 21 rfl rfl)
theorem dX1_learn_92 : decode cX1_learn 92 = .ok (.getfield 54, 3) := dk_180 0 54 (dk_at dksX1_learn_4 0 rfl rfl)
theorem dX1_learn_95 : decode cX1_learn 95 = .ok (.iload 5, 2) := dk_21 5 (dk_at dksX1_learn_4 3 rfl rfl)
theorem dX1_learn_97 : decode cX1_learn 97 = .ok (.iaload, 1) := dk_46 (dk_at dksX1_learn_4 5 rfl rfl)
theorem dX1_learn_98 : decode cX1_learn 98 = .ok (.iload 5, 2) := dk_21 5 (dk_at dksX1_learn_4 6 rfl rfl)
theorem dX1_learn_100 : decode cX1_learn 100 = .ok (.aload_n 0, 1) := dk_42 (dk_at dksX1_learn_4 8 rfl rfl)
theorem dX1_learn_101 : decode cX1_learn 101 = .ok (.getfield 139, 3) := dk_180 0 139 (dk_at dksX1_learn_4 9 rfl rfl)
theorem dX1_learn_104 : decode cX1_learn 104 = .ok (.invokevirtual 284, 3) := dk_182 1 28 (dk_at dksX1_learn_4 12 rfl rfl)
theorem dX1_learn_107 : decode cX1_learn 107 = .ok (.iconst 1, 1) := dk_4 (dk_at dksX1_learn_4 15 rfl rfl)
theorem dX1_learn_108 : decode cX1_learn 108 = .ok (.isub, 1) := dk_100 (dk_at dksX1_learn_4 16 rfl rfl)
theorem dX1_learn_109 : decode cX1_learn 109 = .ok (.iadd, 1) := dk_96 (dk_at dksX1_learn_4 17 rfl rfl)
theorem dX1_learn_110 : decode cX1_learn 110 = .ok (.istore_n 2, 1) := dk_61 (dk_at dksX1_learn_4 18 rfl rfl)
theorem dX1_learn_111 : decode cX1_learn 111 = .ok (.iinc 3 (-1), 3) := dk_132 3 255 (dk_at dksX1_learn_4 19 rfl rfl)
theorem dX1_learn_114 : decode cX1_learn 114 = .ok (.goto (-87), 3) := dk_167 255 169 (dk_at dksX1_learn_5 0 rfl rfl)
theorem dX1_learn_117 : decode cX1_learn 117 = .ok (.iload 4, 2) := dk_21 4 (dk_at dksX1_learn_5 3 rfl rfl)
theorem dX1_learn_119 : decode cX1_learn 119 = .ok (.istore 5, 2) := dk_54 5 (dk_at dksX1_learn_5 5 rfl rfl)
theorem dX1_learn_121 : decode cX1_learn 121 = .ok (.iload 5, 2) := dk_21 5 (dk_at dksX1_learn_5 7 rfl rfl)
theorem dX1_learn_123 : decode cX1_learn 123 = .ok (.ifCond .lt 51, 3) := dk_155 0 51 (dk_at dksX1_learn_5 9 rfl rfl)
theorem dX1_learn_126 : decode cX1_learn 126 = .ok (.aload_n 0, 1) := dk_42 (dk_at dksX1_learn_5 12 rfl rfl)
theorem dX1_learn_127 : decode cX1_learn 127 = .ok (.getfield 94, 3) := dk_180 0 94 (dk_at dksX1_learn_5 13 rfl rfl)
theorem dX1_learn_130 : decode cX1_learn 130 = .ok (.aload_n 0, 1) := dk_42 (dk_at dksX1_learn_5 16 rfl rfl)
theorem dX1_learn_131 : decode cX1_learn 131 = .ok (.getfield 66, 3) := dk_180 0 66 (dk_at dksX1_learn_5 17 rfl rfl)
theorem dX1_learn_134 : decode cX1_learn 134 = .ok (.iload 5, 2) := dk_21 5 (dk_at dksX1_learn_5 20 rfl rfl)
theorem dX1_learn_136 : decode cX1_learn 136 = .ok (.iaload, 1) := dk_46 (dk_at dksX1_learn_5 22 rfl rfl)
theorem dX1_learn_137 : decode cX1_learn 137 = .ok (.invokestatic 219, 3) := dk_184 0 219 (dk_at dksX1_learn_6 0 rfl rfl)
theorem dX1_learn_140 : decode cX1_learn 140 = .ok (.baload, 1) := dk_51 (dk_at dksX1_learn_6 3 rfl rfl)
theorem dX1_learn_141 : decode cX1_learn 141 = .ok (.ifCond .eq 27, 3) := dk_153 0 27 (dk_at dksX1_learn_6 4 rfl rfl)
theorem dX1_learn_144 : decode cX1_learn 144 = .ok (.aload_n 0, 1) := dk_42 (dk_at dksX1_learn_6 7 rfl rfl)
theorem dX1_learn_145 : decode cX1_learn 145 = .ok (.getfield 103, 3) := dk_180 0 103 (dk_at dksX1_learn_6 8 rfl rfl)
theorem dX1_learn_148 : decode cX1_learn 148 = .ok (.aload_n 0, 1) := dk_42 (dk_at dksX1_learn_6 11 rfl rfl)
theorem dX1_learn_149 : decode cX1_learn 149 = .ok (.dup, 1) := dk_89 (dk_at dksX1_learn_6 12 rfl rfl)
theorem dX1_learn_150 : decode cX1_learn 150 = .ok (.getfield 278, 3) := dk_180 1 22 (dk_at dksX1_learn_6 13 rfl rfl)
theorem dX1_learn_153 : decode cX1_learn 153 = .ok (.dup_x1, 1) := dk_90 (dk_at dksX1_learn_6 16 rfl rfl)
theorem dX1_learn_154 : decode cX1_learn 154 = .ok (.iconst 1, 1) := dk_4 (dk_at dksX1_learn_6 17 rfl rfl)
theorem dX1_learn_155 : decode cX1_learn 155 = .ok (.iadd, 1) := dk_96 (dk_at dksX1_learn_6 18 rfl rfl)
theorem dX1_learn_156 : decode cX1_learn 156 = .ok (.putfield 278, 3) := dk_181 1 22 (dk_at dksX1_learn_6 19 rfl rfl)
theorem dX1_learn_159 : decode cX1_learn 159 = .ok (.aload_n 0, 1) := dk_42 (dk_at dksX1_learn_6 22 rfl rfl)
theorem dX1_learn_160 : decode cX1_learn 160 = .ok (.getfield 66, 3) := dk_180 0 66 (dk_at dksX1_learn_7 0 rfl rfl)
theorem dX1_learn_163 : decode cX1_learn 163 = .ok (.iload 5, 2) := dk_21 5 (dk_at dksX1_learn_7 3 rfl rfl)
theorem dX1_learn_165 : decode cX1_learn 165 = .ok (.iaload, 1) := dk_46 (dk_at dksX1_learn_7 5 rfl rfl)
theorem dX1_learn_166 : decode cX1_learn 166 = .ok (.ineg, 1) := dk_116 (dk_at dksX1_learn_7 6 rfl rfl)
theorem dX1_learn_167 : decode cX1_learn 167 = .ok (.iastore, 1) := dk_79 (dk_at dksX1_learn_7 7 rfl rfl)
theorem dX1_learn_168 : decode cX1_learn 168 = .ok (.iinc 5 (-1), 3) := dk_132 5 255 (dk_at dksX1_learn_7 8 rfl rfl)
theorem dX1_learn_171 : decode cX1_learn 171 = .ok (.goto (-50), 3) := dk_167 255 206 (dk_at dksX1_learn_7 11 rfl rfl)
theorem dX1_learn_174 : decode cX1_learn 174 = .ok (.return_, 1) := dk_177 (dk_at dksX1_learn_7 14 rfl rfl)
abbrev cX1_heavier : ByteArray := prog_5_method_24_code
def yX1_heavier : MethodName := ⟨RX1, "heavier", "()V"⟩
def dkwX1_heavier_5 : List UInt8 := [180, 0, 144, 20, 1, 36, 109, 184, 1, 38, 181, 0, 144, 177]
abbrev dktX1_heavier_5 : List UInt8 := dkwX1_heavier_5 ++ []
def dkwX1_heavier_4 : List UInt8 := [163, 0, 21, 42, 180, 0, 60, 28, 92, 47, 20, 1, 36, 109, 80, 132, 2, 1, 167, 255, 233, 42, 10, 42]
abbrev dktX1_heavier_4 : List UInt8 := dkwX1_heavier_4 ++ dktX1_heavier_5
def dkwX1_heavier_3 : List UInt8 := [180, 0, 144, 20, 1, 34, 109, 97, 181, 0, 144, 27, 153, 0, 47, 4, 61, 28, 42, 180, 0, 121]
abbrev dktX1_heavier_3 : List UInt8 := dkwX1_heavier_3 ++ dktX1_heavier_4
def dkwX1_heavier_2 : List UInt8 := [148, 158, 0, 7, 4, 167, 0, 4, 3, 128, 60, 132, 2, 1, 167, 255, 198, 42, 89, 180, 0, 144, 42]
abbrev dktX1_heavier_2 : List UInt8 := dkwX1_heavier_2 ++ dktX1_heavier_3
def dkwX1_heavier_1 : List UInt8 := [51, 153, 0, 10, 42, 180, 0, 144, 167, 0, 4, 9, 97, 80, 27, 42, 180, 0, 60, 28, 47, 20, 1, 32]
abbrev dktX1_heavier_1 : List UInt8 := dkwX1_heavier_1 ++ dktX1_heavier_2
def dkwX1_heavier_0 : List UInt8 := [3, 60, 4, 61, 28, 42, 180, 0, 121, 163, 0, 56, 42, 180, 0, 60, 28, 92, 47, 42, 180, 0, 97, 28]
abbrev dktX1_heavier_0 : List UInt8 := dkwX1_heavier_0 ++ dktX1_heavier_1
theorem dksX1_heavier_0 : cX1_heavier.data.toList.drop 0 = dktX1_heavier_0 := by decide +kernel
theorem dksX1_heavier_1 : cX1_heavier.data.toList.drop 24 = dktX1_heavier_1 := dk_seg dksX1_heavier_0 24 rfl rfl
theorem dksX1_heavier_2 : cX1_heavier.data.toList.drop 48 = dktX1_heavier_2 := dk_seg dksX1_heavier_1 24 rfl rfl
theorem dksX1_heavier_3 : cX1_heavier.data.toList.drop 71 = dktX1_heavier_3 := dk_seg dksX1_heavier_2 23 rfl rfl
theorem dksX1_heavier_4 : cX1_heavier.data.toList.drop 93 = dktX1_heavier_4 := dk_seg dksX1_heavier_3 22 rfl rfl
theorem dksX1_heavier_5 : cX1_heavier.data.toList.drop 117 = dktX1_heavier_5 := dk_seg dksX1_heavier_4 24 rfl rfl
theorem dX1_heavier_0 : decode cX1_heavier 0 = .ok (.iconst 0, 1) := dk_3 (dk_at dksX1_heavier_0 0 rfl rfl)
theorem dX1_heavier_1 : decode cX1_heavier 1 = .ok (.istore_n 1, 1) := dk_60 (dk_at dksX1_heavier_0 1 rfl rfl)
theorem dX1_heavier_2 : decode cX1_heavier 2 = .ok (.iconst 1, 1) := dk_4 (dk_at dksX1_heavier_0 2 rfl rfl)
theorem dX1_heavier_3 : decode cX1_heavier 3 = .ok (.istore_n 2, 1) := dk_61 (dk_at dksX1_heavier_0 3 rfl rfl)
theorem dX1_heavier_4 : decode cX1_heavier 4 = .ok (.iload_n 2, 1) := dk_28 (dk_at dksX1_heavier_0 4 rfl rfl)
theorem dX1_heavier_5 : decode cX1_heavier 5 = .ok (.aload_n 0, 1) := dk_42 (dk_at dksX1_heavier_0 5 rfl rfl)
theorem dX1_heavier_6 : decode cX1_heavier 6 = .ok (.getfield 121, 3) := dk_180 0 121 (dk_at dksX1_heavier_0 6 rfl rfl)
theorem dX1_heavier_9 : decode cX1_heavier 9 = .ok (.if_icmp .gt 56, 3) := dk_163 0 56 (dk_at dksX1_heavier_0 9 rfl rfl)
theorem dX1_heavier_12 : decode cX1_heavier 12 = .ok (.aload_n 0, 1) := dk_42 (dk_at dksX1_heavier_0 12 rfl rfl)
theorem dX1_heavier_13 : decode cX1_heavier 13 = .ok (.getfield 60, 3) := dk_180 0 60 (dk_at dksX1_heavier_0 13 rfl rfl)
theorem dX1_heavier_16 : decode cX1_heavier 16 = .ok (.iload_n 2, 1) := dk_28 (dk_at dksX1_heavier_0 16 rfl rfl)
theorem dX1_heavier_17 : decode cX1_heavier 17 = .ok (.dup2, 1) := dk_92 (dk_at dksX1_heavier_0 17 rfl rfl)
theorem dX1_heavier_18 : decode cX1_heavier 18 = .ok (.laload, 1) := dk_47 (dk_at dksX1_heavier_0 18 rfl rfl)
theorem dX1_heavier_19 : decode cX1_heavier 19 = .ok (.aload_n 0, 1) := dk_42 (dk_at dksX1_heavier_0 19 rfl rfl)
theorem dX1_heavier_20 : decode cX1_heavier 20 = .ok (.getfield 97, 3) := dk_180 0 97 (dk_at dksX1_heavier_0 20 rfl rfl)
theorem dX1_heavier_23 : decode cX1_heavier 23 = .ok (.iload_n 2, 1) := dk_28 (dk_at dksX1_heavier_0 23 rfl rfl)
theorem dX1_heavier_24 : decode cX1_heavier 24 = .ok (.baload, 1) := dk_51 (dk_at dksX1_heavier_1 0 rfl rfl)
theorem dX1_heavier_25 : decode cX1_heavier 25 = .ok (.ifCond .eq 10, 3) := dk_153 0 10 (dk_at dksX1_heavier_1 1 rfl rfl)
theorem dX1_heavier_28 : decode cX1_heavier 28 = .ok (.aload_n 0, 1) := dk_42 (dk_at dksX1_heavier_1 4 rfl rfl)
theorem dX1_heavier_29 : decode cX1_heavier 29 = .ok (.getfield 144, 3) := dk_180 0 144 (dk_at dksX1_heavier_1 5 rfl rfl)
theorem dX1_heavier_32 : decode cX1_heavier 32 = .ok (.goto 4, 3) := dk_167 0 4 (dk_at dksX1_heavier_1 8 rfl rfl)
theorem dX1_heavier_35 : decode cX1_heavier 35 = .ok (.lconst 0, 1) := dk_9 (dk_at dksX1_heavier_1 11 rfl rfl)
theorem dX1_heavier_36 : decode cX1_heavier 36 = .ok (.ladd, 1) := dk_97 (dk_at dksX1_heavier_1 12 rfl rfl)
theorem dX1_heavier_37 : decode cX1_heavier 37 = .ok (.lastore, 1) := dk_80 (dk_at dksX1_heavier_1 13 rfl rfl)
theorem dX1_heavier_38 : decode cX1_heavier 38 = .ok (.iload_n 1, 1) := dk_27 (dk_at dksX1_heavier_1 14 rfl rfl)
theorem dX1_heavier_39 : decode cX1_heavier 39 = .ok (.aload_n 0, 1) := dk_42 (dk_at dksX1_heavier_1 15 rfl rfl)
theorem dX1_heavier_40 : decode cX1_heavier 40 = .ok (.getfield 60, 3) := dk_180 0 60 (dk_at dksX1_heavier_1 16 rfl rfl)
theorem dX1_heavier_43 : decode cX1_heavier 43 = .ok (.iload_n 2, 1) := dk_28 (dk_at dksX1_heavier_1 19 rfl rfl)
theorem dX1_heavier_44 : decode cX1_heavier 44 = .ok (.laload, 1) := dk_47 (dk_at dksX1_heavier_1 20 rfl rfl)
theorem dX1_heavier_45 : decode cX1_heavier 45 = .ok (.ldc2_w 288, 3) := dk_20 1 32 (dk_at dksX1_heavier_1 21 rfl rfl)
theorem dX1_heavier_48 : decode cX1_heavier 48 = .ok (.lcmp, 1) := dk_148 (dk_at dksX1_heavier_2 0 rfl rfl)
theorem dX1_heavier_49 : decode cX1_heavier 49 = .ok (.ifCond .le 7, 3) := dk_158 0 7 (dk_at dksX1_heavier_2 1 rfl rfl)
theorem dX1_heavier_52 : decode cX1_heavier 52 = .ok (.iconst 1, 1) := dk_4 (dk_at dksX1_heavier_2 4 rfl rfl)
theorem dX1_heavier_53 : decode cX1_heavier 53 = .ok (.goto 4, 3) := dk_167 0 4 (dk_at dksX1_heavier_2 5 rfl rfl)
theorem dX1_heavier_56 : decode cX1_heavier 56 = .ok (.iconst 0, 1) := dk_3 (dk_at dksX1_heavier_2 8 rfl rfl)
theorem dX1_heavier_57 : decode cX1_heavier 57 = .ok (.ior, 1) := dk_128 (dk_at dksX1_heavier_2 9 rfl rfl)
theorem dX1_heavier_58 : decode cX1_heavier 58 = .ok (.istore_n 1, 1) := dk_60 (dk_at dksX1_heavier_2 10 rfl rfl)
theorem dX1_heavier_59 : decode cX1_heavier 59 = .ok (.iinc 2 1, 3) := dk_132 2 1 (dk_at dksX1_heavier_2 11 rfl rfl)
theorem dX1_heavier_62 : decode cX1_heavier 62 = .ok (.goto (-58), 3) := dk_167 255 198 (dk_at dksX1_heavier_2 14 rfl rfl)
theorem dX1_heavier_65 : decode cX1_heavier 65 = .ok (.aload_n 0, 1) := dk_42 (dk_at dksX1_heavier_2 17 rfl rfl)
theorem dX1_heavier_66 : decode cX1_heavier 66 = .ok (.dup, 1) := dk_89 (dk_at dksX1_heavier_2 18 rfl rfl)
theorem dX1_heavier_67 : decode cX1_heavier 67 = .ok (.getfield 144, 3) := dk_180 0 144 (dk_at dksX1_heavier_2 19 rfl rfl)
theorem dX1_heavier_70 : decode cX1_heavier 70 = .ok (.aload_n 0, 1) := dk_42 (dk_at dksX1_heavier_2 22 rfl rfl)
theorem dX1_heavier_71 : decode cX1_heavier 71 = .ok (.getfield 144, 3) := dk_180 0 144 (dk_at dksX1_heavier_3 0 rfl rfl)
theorem dX1_heavier_74 : decode cX1_heavier 74 = .ok (.ldc2_w 290, 3) := dk_20 1 34 (dk_at dksX1_heavier_3 3 rfl rfl)
theorem dX1_heavier_77 : decode cX1_heavier 77 = .ok (.ldiv, 1) := dk_109 (dk_at dksX1_heavier_3 6 rfl rfl)
theorem dX1_heavier_78 : decode cX1_heavier 78 = .ok (.ladd, 1) := dk_97 (dk_at dksX1_heavier_3 7 rfl rfl)
theorem dX1_heavier_79 : decode cX1_heavier 79 = .ok (.putfield 144, 3) := dk_181 0 144 (dk_at dksX1_heavier_3 8 rfl rfl)
theorem dX1_heavier_82 : decode cX1_heavier 82 = .ok (.iload_n 1, 1) := dk_27 (dk_at dksX1_heavier_3 11 rfl rfl)
theorem dX1_heavier_83 : decode cX1_heavier 83 = .ok (.ifCond .eq 47, 3) := dk_153 0 47 (dk_at dksX1_heavier_3 12 rfl rfl)
theorem dX1_heavier_86 : decode cX1_heavier 86 = .ok (.iconst 1, 1) := dk_4 (dk_at dksX1_heavier_3 15 rfl rfl)
theorem dX1_heavier_87 : decode cX1_heavier 87 = .ok (.istore_n 2, 1) := dk_61 (dk_at dksX1_heavier_3 16 rfl rfl)
theorem dX1_heavier_88 : decode cX1_heavier 88 = .ok (.iload_n 2, 1) := dk_28 (dk_at dksX1_heavier_3 17 rfl rfl)
theorem dX1_heavier_89 : decode cX1_heavier 89 = .ok (.aload_n 0, 1) := dk_42 (dk_at dksX1_heavier_3 18 rfl rfl)
theorem dX1_heavier_90 : decode cX1_heavier 90 = .ok (.getfield 121, 3) := dk_180 0 121 (dk_at dksX1_heavier_3 19 rfl rfl)
theorem dX1_heavier_93 : decode cX1_heavier 93 = .ok (.if_icmp .gt 21, 3) := dk_163 0 21 (dk_at dksX1_heavier_4 0 rfl rfl)
theorem dX1_heavier_96 : decode cX1_heavier 96 = .ok (.aload_n 0, 1) := dk_42 (dk_at dksX1_heavier_4 3 rfl rfl)
theorem dX1_heavier_97 : decode cX1_heavier 97 = .ok (.getfield 60, 3) := dk_180 0 60 (dk_at dksX1_heavier_4 4 rfl rfl)
theorem dX1_heavier_100 : decode cX1_heavier 100 = .ok (.iload_n 2, 1) := dk_28 (dk_at dksX1_heavier_4 7 rfl rfl)
theorem dX1_heavier_101 : decode cX1_heavier 101 = .ok (.dup2, 1) := dk_92 (dk_at dksX1_heavier_4 8 rfl rfl)
theorem dX1_heavier_102 : decode cX1_heavier 102 = .ok (.laload, 1) := dk_47 (dk_at dksX1_heavier_4 9 rfl rfl)
theorem dX1_heavier_103 : decode cX1_heavier 103 = .ok (.ldc2_w 292, 3) := dk_20 1 36 (dk_at dksX1_heavier_4 10 rfl rfl)
theorem dX1_heavier_106 : decode cX1_heavier 106 = .ok (.ldiv, 1) := dk_109 (dk_at dksX1_heavier_4 13 rfl rfl)
theorem dX1_heavier_107 : decode cX1_heavier 107 = .ok (.lastore, 1) := dk_80 (dk_at dksX1_heavier_4 14 rfl rfl)
theorem dX1_heavier_108 : decode cX1_heavier 108 = .ok (.iinc 2 1, 3) := dk_132 2 1 (dk_at dksX1_heavier_4 15 rfl rfl)
theorem dX1_heavier_111 : decode cX1_heavier 111 = .ok (.goto (-23), 3) := dk_167 255 233 (dk_at dksX1_heavier_4 18 rfl rfl)
theorem dX1_heavier_114 : decode cX1_heavier 114 = .ok (.aload_n 0, 1) := dk_42 (dk_at dksX1_heavier_4 21 rfl rfl)
theorem dX1_heavier_115 : decode cX1_heavier 115 = .ok (.lconst 1, 1) := dk_10 (dk_at dksX1_heavier_4 22 rfl rfl)
theorem dX1_heavier_116 : decode cX1_heavier 116 = .ok (.aload_n 0, 1) := dk_42 (dk_at dksX1_heavier_4 23 rfl rfl)
theorem dX1_heavier_117 : decode cX1_heavier 117 = .ok (.getfield 144, 3) := dk_180 0 144 (dk_at dksX1_heavier_5 0 rfl rfl)
theorem dX1_heavier_120 : decode cX1_heavier 120 = .ok (.ldc2_w 292, 3) := dk_20 1 36 (dk_at dksX1_heavier_5 3 rfl rfl)
theorem dX1_heavier_123 : decode cX1_heavier 123 = .ok (.ldiv, 1) := dk_109 (dk_at dksX1_heavier_5 6 rfl rfl)
theorem dX1_heavier_124 : decode cX1_heavier 124 = .ok (.invokestatic 294, 3) := dk_184 1 38 (dk_at dksX1_heavier_5 7 rfl rfl)
theorem dX1_heavier_127 : decode cX1_heavier 127 = .ok (.putfield 144, 3) := dk_181 0 144 (dk_at dksX1_heavier_5 10 rfl rfl)
theorem dX1_heavier_130 : decode cX1_heavier 130 = .ok (.return_, 1) := dk_177 (dk_at dksX1_heavier_5 13 rfl rfl)
abbrev cX1_turnNumber : ByteArray := prog_5_method_27_code
def yX1_turnNumber : MethodName := ⟨RX1, "turnNumber", "()I"⟩
def dkwX1_turnNumber_2 : List UInt8 := [162, 255, 233, 28, 5, 104, 61, 167, 255, 243, 28, 172]
abbrev dktX1_turnNumber_2 : List UInt8 := dkwX1_turnNumber_2 ++ []
def dkwX1_turnNumber_1 : List UInt8 := [5, 28, 104, 4, 100, 159, 0, 27, 27, 28, 4, 100, 100, 60, 4, 61, 5, 28, 104, 4, 100, 27]
abbrev dktX1_turnNumber_1 : List UInt8 := dkwX1_turnNumber_1 ++ dktX1_turnNumber_2
def dkwX1_turnNumber_0 : List UInt8 := [42, 180, 0, 184, 60, 4, 61, 5, 28, 104, 4, 100, 27, 162, 0, 10, 28, 5, 104, 61, 167, 255, 243, 27]
abbrev dktX1_turnNumber_0 : List UInt8 := dkwX1_turnNumber_0 ++ dktX1_turnNumber_1
theorem dksX1_turnNumber_0 : cX1_turnNumber.data.toList.drop 0 = dktX1_turnNumber_0 := by decide +kernel
theorem dksX1_turnNumber_1 : cX1_turnNumber.data.toList.drop 24 = dktX1_turnNumber_1 := dk_seg dksX1_turnNumber_0 24 rfl rfl
theorem dksX1_turnNumber_2 : cX1_turnNumber.data.toList.drop 46 = dktX1_turnNumber_2 := dk_seg dksX1_turnNumber_1 22 rfl rfl
theorem dX1_turnNumber_0 : decode cX1_turnNumber 0 = .ok (.aload_n 0, 1) := dk_42 (dk_at dksX1_turnNumber_0 0 rfl rfl)
theorem dX1_turnNumber_1 : decode cX1_turnNumber 1 = .ok (.getfield 184, 3) := dk_180 0 184 (dk_at dksX1_turnNumber_0 1 rfl rfl)
theorem dX1_turnNumber_4 : decode cX1_turnNumber 4 = .ok (.istore_n 1, 1) := dk_60 (dk_at dksX1_turnNumber_0 4 rfl rfl)
theorem dX1_turnNumber_5 : decode cX1_turnNumber 5 = .ok (.iconst 1, 1) := dk_4 (dk_at dksX1_turnNumber_0 5 rfl rfl)
theorem dX1_turnNumber_6 : decode cX1_turnNumber 6 = .ok (.istore_n 2, 1) := dk_61 (dk_at dksX1_turnNumber_0 6 rfl rfl)
theorem dX1_turnNumber_7 : decode cX1_turnNumber 7 = .ok (.iconst 2, 1) := dk_5 (dk_at dksX1_turnNumber_0 7 rfl rfl)
theorem dX1_turnNumber_8 : decode cX1_turnNumber 8 = .ok (.iload_n 2, 1) := dk_28 (dk_at dksX1_turnNumber_0 8 rfl rfl)
theorem dX1_turnNumber_9 : decode cX1_turnNumber 9 = .ok (.imul, 1) := dk_104 (dk_at dksX1_turnNumber_0 9 rfl rfl)
theorem dX1_turnNumber_10 : decode cX1_turnNumber 10 = .ok (.iconst 1, 1) := dk_4 (dk_at dksX1_turnNumber_0 10 rfl rfl)
theorem dX1_turnNumber_11 : decode cX1_turnNumber 11 = .ok (.isub, 1) := dk_100 (dk_at dksX1_turnNumber_0 11 rfl rfl)
theorem dX1_turnNumber_12 : decode cX1_turnNumber 12 = .ok (.iload_n 1, 1) := dk_27 (dk_at dksX1_turnNumber_0 12 rfl rfl)
theorem dX1_turnNumber_13 : decode cX1_turnNumber 13 = .ok (.if_icmp .ge 10, 3) := dk_162 0 10 (dk_at dksX1_turnNumber_0 13 rfl rfl)
theorem dX1_turnNumber_16 : decode cX1_turnNumber 16 = .ok (.iload_n 2, 1) := dk_28 (dk_at dksX1_turnNumber_0 16 rfl rfl)
theorem dX1_turnNumber_17 : decode cX1_turnNumber 17 = .ok (.iconst 2, 1) := dk_5 (dk_at dksX1_turnNumber_0 17 rfl rfl)
theorem dX1_turnNumber_18 : decode cX1_turnNumber 18 = .ok (.imul, 1) := dk_104 (dk_at dksX1_turnNumber_0 18 rfl rfl)
theorem dX1_turnNumber_19 : decode cX1_turnNumber 19 = .ok (.istore_n 2, 1) := dk_61 (dk_at dksX1_turnNumber_0 19 rfl rfl)
theorem dX1_turnNumber_20 : decode cX1_turnNumber 20 = .ok (.goto (-13), 3) := dk_167 255 243 (dk_at dksX1_turnNumber_0 20 rfl rfl)
theorem dX1_turnNumber_23 : decode cX1_turnNumber 23 = .ok (.iload_n 1, 1) := dk_27 (dk_at dksX1_turnNumber_0 23 rfl rfl)
theorem dX1_turnNumber_24 : decode cX1_turnNumber 24 = .ok (.iconst 2, 1) := dk_5 (dk_at dksX1_turnNumber_1 0 rfl rfl)
theorem dX1_turnNumber_25 : decode cX1_turnNumber 25 = .ok (.iload_n 2, 1) := dk_28 (dk_at dksX1_turnNumber_1 1 rfl rfl)
theorem dX1_turnNumber_26 : decode cX1_turnNumber 26 = .ok (.imul, 1) := dk_104 (dk_at dksX1_turnNumber_1 2 rfl rfl)
theorem dX1_turnNumber_27 : decode cX1_turnNumber 27 = .ok (.iconst 1, 1) := dk_4 (dk_at dksX1_turnNumber_1 3 rfl rfl)
theorem dX1_turnNumber_28 : decode cX1_turnNumber 28 = .ok (.isub, 1) := dk_100 (dk_at dksX1_turnNumber_1 4 rfl rfl)
theorem dX1_turnNumber_29 : decode cX1_turnNumber 29 = .ok (.if_icmp .eq 27, 3) := dk_159 0 27 (dk_at dksX1_turnNumber_1 5 rfl rfl)
theorem dX1_turnNumber_32 : decode cX1_turnNumber 32 = .ok (.iload_n 1, 1) := dk_27 (dk_at dksX1_turnNumber_1 8 rfl rfl)
theorem dX1_turnNumber_33 : decode cX1_turnNumber 33 = .ok (.iload_n 2, 1) := dk_28 (dk_at dksX1_turnNumber_1 9 rfl rfl)
theorem dX1_turnNumber_34 : decode cX1_turnNumber 34 = .ok (.iconst 1, 1) := dk_4 (dk_at dksX1_turnNumber_1 10 rfl rfl)
theorem dX1_turnNumber_35 : decode cX1_turnNumber 35 = .ok (.isub, 1) := dk_100 (dk_at dksX1_turnNumber_1 11 rfl rfl)
theorem dX1_turnNumber_36 : decode cX1_turnNumber 36 = .ok (.isub, 1) := dk_100 (dk_at dksX1_turnNumber_1 12 rfl rfl)
theorem dX1_turnNumber_37 : decode cX1_turnNumber 37 = .ok (.istore_n 1, 1) := dk_60 (dk_at dksX1_turnNumber_1 13 rfl rfl)
theorem dX1_turnNumber_38 : decode cX1_turnNumber 38 = .ok (.iconst 1, 1) := dk_4 (dk_at dksX1_turnNumber_1 14 rfl rfl)
theorem dX1_turnNumber_39 : decode cX1_turnNumber 39 = .ok (.istore_n 2, 1) := dk_61 (dk_at dksX1_turnNumber_1 15 rfl rfl)
theorem dX1_turnNumber_40 : decode cX1_turnNumber 40 = .ok (.iconst 2, 1) := dk_5 (dk_at dksX1_turnNumber_1 16 rfl rfl)
theorem dX1_turnNumber_41 : decode cX1_turnNumber 41 = .ok (.iload_n 2, 1) := dk_28 (dk_at dksX1_turnNumber_1 17 rfl rfl)
theorem dX1_turnNumber_42 : decode cX1_turnNumber 42 = .ok (.imul, 1) := dk_104 (dk_at dksX1_turnNumber_1 18 rfl rfl)
theorem dX1_turnNumber_43 : decode cX1_turnNumber 43 = .ok (.iconst 1, 1) := dk_4 (dk_at dksX1_turnNumber_1 19 rfl rfl)
theorem dX1_turnNumber_44 : decode cX1_turnNumber 44 = .ok (.isub, 1) := dk_100 (dk_at dksX1_turnNumber_1 20 rfl rfl)
theorem dX1_turnNumber_45 : decode cX1_turnNumber 45 = .ok (.iload_n 1, 1) := dk_27 (dk_at dksX1_turnNumber_1 21 rfl rfl)
theorem dX1_turnNumber_46 : decode cX1_turnNumber 46 = .ok (.if_icmp .ge (-23), 3) := dk_162 255 233 (dk_at dksX1_turnNumber_2 0 rfl rfl)
theorem dX1_turnNumber_49 : decode cX1_turnNumber 49 = .ok (.iload_n 2, 1) := dk_28 (dk_at dksX1_turnNumber_2 3 rfl rfl)
theorem dX1_turnNumber_50 : decode cX1_turnNumber 50 = .ok (.iconst 2, 1) := dk_5 (dk_at dksX1_turnNumber_2 4 rfl rfl)
theorem dX1_turnNumber_51 : decode cX1_turnNumber 51 = .ok (.imul, 1) := dk_104 (dk_at dksX1_turnNumber_2 5 rfl rfl)
theorem dX1_turnNumber_52 : decode cX1_turnNumber 52 = .ok (.istore_n 2, 1) := dk_61 (dk_at dksX1_turnNumber_2 6 rfl rfl)
theorem dX1_turnNumber_53 : decode cX1_turnNumber 53 = .ok (.goto (-13), 3) := dk_167 255 243 (dk_at dksX1_turnNumber_2 7 rfl rfl)
theorem dX1_turnNumber_56 : decode cX1_turnNumber 56 = .ok (.iload_n 2, 1) := dk_28 (dk_at dksX1_turnNumber_2 10 rfl rfl)
theorem dX1_turnNumber_57 : decode cX1_turnNumber 57 = .ok (.ireturn, 1) := dk_172 (dk_at dksX1_turnNumber_2 11 rfl rfl)
abbrev cX1_forgets : ByteArray := prog_5_method_29_code
def yX1_forgets : MethodName := ⟨RX1, "forgets", "()V"⟩
def dkwX1_forgets_9 : List UInt8 := [162, 0, 19, 42, 180, 0, 75, 28, 92, 46, 5, 108, 79, 132, 2, 1, 167, 255, 235, 177]
abbrev dktX1_forgets_9 : List UInt8 := dkwX1_forgets_9 ++ []
def dkwX1_forgets_8 : List UInt8 := [89, 180, 0, 172, 4, 96, 181, 0, 172, 132, 2, 1, 167, 255, 196, 3, 61, 28, 42, 180, 0, 148]
abbrev dktX1_forgets_8 : List UInt8 := dkwX1_forgets_8 ++ dktX1_forgets_9
def dkwX1_forgets_7 : List UInt8 := [17, 2, 52, 42, 180, 0, 112, 28, 46, 96, 182, 0, 202, 42, 89, 180, 0, 175, 4, 100, 181, 0, 175, 42]
abbrev dktX1_forgets_7 : List UInt8 := dkwX1_forgets_7 ++ dktX1_forgets_8
def dkwX1_forgets_6 : List UInt8 := [27, 5, 108, 162, 0, 59, 42, 180, 0, 28, 17, 2, 52, 42, 180, 0, 112, 28, 46, 96, 3, 84, 42]
abbrev dktX1_forgets_6 : List UInt8 := dkwX1_forgets_6 ++ dktX1_forgets_7
def dkwX1_forgets_5 : List UInt8 := [79, 132, 4, 255, 167, 255, 209, 42, 180, 0, 112, 21, 4, 28, 79, 132, 2, 1, 167, 255, 148, 3, 61, 28]
abbrev dktX1_forgets_5 : List UInt8 := dkwX1_forgets_5 ++ dktX1_forgets_6
def dkwX1_forgets_4 : List UInt8 := [42, 180, 0, 75, 28, 46, 164, 0, 25, 42, 180, 0, 112, 21, 4, 42, 180, 0, 112, 21, 4, 4, 100, 46]
abbrev dktX1_forgets_4 : List UInt8 := dkwX1_forgets_4 ++ dktX1_forgets_5
def dkwX1_forgets_3 : List UInt8 := [132, 1, 1, 54, 4, 21, 4, 158, 0, 48, 42, 180, 0, 75, 42, 180, 0, 112, 21, 4, 4, 100, 46, 46]
abbrev dktX1_forgets_3 : List UInt8 := dkwX1_forgets_3 ++ dktX1_forgets_4
def dkwX1_forgets_2 : List UInt8 := [51, 153, 0, 85, 42, 180, 0, 19, 29, 46, 5, 164, 0, 75, 42, 29, 182, 1, 44, 154, 0, 67, 27]
abbrev dktX1_forgets_2 : List UInt8 := dkwX1_forgets_2 ++ dktX1_forgets_3
def dkwX1_forgets_1 : List UInt8 := [177, 3, 60, 3, 61, 28, 42, 180, 0, 148, 162, 0, 106, 17, 2, 52, 28, 96, 62, 42, 180, 0, 28, 29]
abbrev dktX1_forgets_1 : List UInt8 := dkwX1_forgets_1 ++ dktX1_forgets_2
def dkwX1_forgets_0 : List UInt8 := [42, 180, 0, 3, 180, 1, 41, 153, 0, 17, 42, 180, 0, 175, 42, 180, 0, 3, 180, 1, 41, 163, 0, 4]
abbrev dktX1_forgets_0 : List UInt8 := dkwX1_forgets_0 ++ dktX1_forgets_1
theorem dksX1_forgets_0 : cX1_forgets.data.toList.drop 0 = dktX1_forgets_0 := by decide +kernel
theorem dksX1_forgets_1 : cX1_forgets.data.toList.drop 24 = dktX1_forgets_1 := dk_seg dksX1_forgets_0 24 rfl rfl
theorem dksX1_forgets_2 : cX1_forgets.data.toList.drop 48 = dktX1_forgets_2 := dk_seg dksX1_forgets_1 24 rfl rfl
theorem dksX1_forgets_3 : cX1_forgets.data.toList.drop 71 = dktX1_forgets_3 := dk_seg dksX1_forgets_2 23 rfl rfl
theorem dksX1_forgets_4 : cX1_forgets.data.toList.drop 95 = dktX1_forgets_4 := dk_seg dksX1_forgets_3 24 rfl rfl
theorem dksX1_forgets_5 : cX1_forgets.data.toList.drop 119 = dktX1_forgets_5 := dk_seg dksX1_forgets_4 24 rfl rfl
theorem dksX1_forgets_6 : cX1_forgets.data.toList.drop 143 = dktX1_forgets_6 := dk_seg dksX1_forgets_5 24 rfl rfl
theorem dksX1_forgets_7 : cX1_forgets.data.toList.drop 166 = dktX1_forgets_7 := dk_seg dksX1_forgets_6 23 rfl rfl
theorem dksX1_forgets_8 : cX1_forgets.data.toList.drop 190 = dktX1_forgets_8 := dk_seg dksX1_forgets_7 24 rfl rfl
theorem dksX1_forgets_9 : cX1_forgets.data.toList.drop 212 = dktX1_forgets_9 := dk_seg dksX1_forgets_8 22 rfl rfl
theorem dX1_forgets_0 : decode cX1_forgets 0 = .ok (.aload_n 0, 1) := dk_42 (dk_at dksX1_forgets_0 0 rfl rfl)
theorem dX1_forgets_1 : decode cX1_forgets 1 = .ok (.getfield 3, 3) := dk_180 0 3 (dk_at dksX1_forgets_0 1 rfl rfl)
theorem dX1_forgets_4 : decode cX1_forgets 4 = .ok (.getfield 297, 3) := dk_180 1 41 (dk_at dksX1_forgets_0 4 rfl rfl)
theorem dX1_forgets_7 : decode cX1_forgets 7 = .ok (.ifCond .eq 17, 3) := dk_153 0 17 (dk_at dksX1_forgets_0 7 rfl rfl)
theorem dX1_forgets_10 : decode cX1_forgets 10 = .ok (.aload_n 0, 1) := dk_42 (dk_at dksX1_forgets_0 10 rfl rfl)
theorem dX1_forgets_11 : decode cX1_forgets 11 = .ok (.getfield 175, 3) := dk_180 0 175 (dk_at dksX1_forgets_0 11 rfl rfl)
theorem dX1_forgets_14 : decode cX1_forgets 14 = .ok (.aload_n 0, 1) := dk_42 (dk_at dksX1_forgets_0 14 rfl rfl)
theorem dX1_forgets_15 : decode cX1_forgets 15 = .ok (.getfield 3, 3) := dk_180 0 3 (dk_at dksX1_forgets_0 15 rfl rfl)
theorem dX1_forgets_18 : decode cX1_forgets 18 = .ok (.getfield 297, 3) := dk_180 1 41 (dk_at dksX1_forgets_0 18 rfl rfl)
theorem dX1_forgets_21 : decode cX1_forgets 21 = .ok (.if_icmp .gt 4, 3) := dk_163 0 4 (dk_at dksX1_forgets_0 21 rfl rfl)
theorem dX1_forgets_24 : decode cX1_forgets 24 = .ok (.return_, 1) := dk_177 (dk_at dksX1_forgets_1 0 rfl rfl)
theorem dX1_forgets_25 : decode cX1_forgets 25 = .ok (.iconst 0, 1) := dk_3 (dk_at dksX1_forgets_1 1 rfl rfl)
theorem dX1_forgets_26 : decode cX1_forgets 26 = .ok (.istore_n 1, 1) := dk_60 (dk_at dksX1_forgets_1 2 rfl rfl)
theorem dX1_forgets_27 : decode cX1_forgets 27 = .ok (.iconst 0, 1) := dk_3 (dk_at dksX1_forgets_1 3 rfl rfl)
theorem dX1_forgets_28 : decode cX1_forgets 28 = .ok (.istore_n 2, 1) := dk_61 (dk_at dksX1_forgets_1 4 rfl rfl)
theorem dX1_forgets_29 : decode cX1_forgets 29 = .ok (.iload_n 2, 1) := dk_28 (dk_at dksX1_forgets_1 5 rfl rfl)
theorem dX1_forgets_30 : decode cX1_forgets 30 = .ok (.aload_n 0, 1) := dk_42 (dk_at dksX1_forgets_1 6 rfl rfl)
theorem dX1_forgets_31 : decode cX1_forgets 31 = .ok (.getfield 148, 3) := dk_180 0 148 (dk_at dksX1_forgets_1 7 rfl rfl)
theorem dX1_forgets_34 : decode cX1_forgets 34 = .ok (.if_icmp .ge 106, 3) := dk_162 0 106 (dk_at dksX1_forgets_1 10 rfl rfl)
theorem dX1_forgets_37 : decode cX1_forgets 37 = .ok (.sipush 564, 3) := dk_17 2 52 (dk_at dksX1_forgets_1 13 rfl rfl)
theorem dX1_forgets_40 : decode cX1_forgets 40 = .ok (.iload_n 2, 1) := dk_28 (dk_at dksX1_forgets_1 16 rfl rfl)
theorem dX1_forgets_41 : decode cX1_forgets 41 = .ok (.iadd, 1) := dk_96 (dk_at dksX1_forgets_1 17 rfl rfl)
theorem dX1_forgets_42 : decode cX1_forgets 42 = .ok (.istore_n 3, 1) := dk_62 (dk_at dksX1_forgets_1 18 rfl rfl)
theorem dX1_forgets_43 : decode cX1_forgets 43 = .ok (.aload_n 0, 1) := dk_42 (dk_at dksX1_forgets_1 19 rfl rfl)
theorem dX1_forgets_44 : decode cX1_forgets 44 = .ok (.getfield 28, 3) := dk_180 0 28 (dk_at dksX1_forgets_1 20 rfl rfl)
theorem dX1_forgets_47 : decode cX1_forgets 47 = .ok (.iload_n 3, 1) := dk_29 (dk_at dksX1_forgets_1 23 rfl rfl)
theorem dX1_forgets_48 : decode cX1_forgets 48 = .ok (.baload, 1) := dk_51 (dk_at dksX1_forgets_2 0 rfl rfl)
theorem dX1_forgets_49 : decode cX1_forgets 49 = .ok (.ifCond .eq 85, 3) := dk_153 0 85 (dk_at dksX1_forgets_2 1 rfl rfl)
theorem dX1_forgets_52 : decode cX1_forgets 52 = .ok (.aload_n 0, 1) := dk_42 (dk_at dksX1_forgets_2 4 rfl rfl)
theorem dX1_forgets_53 : decode cX1_forgets 53 = .ok (.getfield 19, 3) := dk_180 0 19 (dk_at dksX1_forgets_2 5 rfl rfl)
theorem dX1_forgets_56 : decode cX1_forgets 56 = .ok (.iload_n 3, 1) := dk_29 (dk_at dksX1_forgets_2 8 rfl rfl)
theorem dX1_forgets_57 : decode cX1_forgets 57 = .ok (.iaload, 1) := dk_46 (dk_at dksX1_forgets_2 9 rfl rfl)
theorem dX1_forgets_58 : decode cX1_forgets 58 = .ok (.iconst 2, 1) := dk_5 (dk_at dksX1_forgets_2 10 rfl rfl)
theorem dX1_forgets_59 : decode cX1_forgets 59 = .ok (.if_icmp .le 75, 3) := dk_164 0 75 (dk_at dksX1_forgets_2 11 rfl rfl)
theorem dX1_forgets_62 : decode cX1_forgets 62 = .ok (.aload_n 0, 1) := dk_42 (dk_at dksX1_forgets_2 14 rfl rfl)
theorem dX1_forgets_63 : decode cX1_forgets 63 = .ok (.iload_n 3, 1) := dk_29 (dk_at dksX1_forgets_2 15 rfl rfl)
theorem dX1_forgets_64 : decode cX1_forgets 64 = .ok (.invokevirtual 300, 3) := dk_182 1 44 (dk_at dksX1_forgets_2 16 rfl rfl)
theorem dX1_forgets_67 : decode cX1_forgets 67 = .ok (.ifCond .ne 67, 3) := dk_154 0 67 (dk_at dksX1_forgets_2 19 rfl rfl)
theorem dX1_forgets_70 : decode cX1_forgets 70 = .ok (.iload_n 1, 1) := dk_27 (dk_at dksX1_forgets_2 22 rfl rfl)
theorem dX1_forgets_71 : decode cX1_forgets 71 = .ok (.iinc 1 1, 3) := dk_132 1 1 (dk_at dksX1_forgets_3 0 rfl rfl)
theorem dX1_forgets_74 : decode cX1_forgets 74 = .ok (.istore 4, 2) := dk_54 4 (dk_at dksX1_forgets_3 3 rfl rfl)
theorem dX1_forgets_76 : decode cX1_forgets 76 = .ok (.iload 4, 2) := dk_21 4 (dk_at dksX1_forgets_3 5 rfl rfl)
theorem dX1_forgets_78 : decode cX1_forgets 78 = .ok (.ifCond .le 48, 3) := dk_158 0 48 (dk_at dksX1_forgets_3 7 rfl rfl)
theorem dX1_forgets_81 : decode cX1_forgets 81 = .ok (.aload_n 0, 1) := dk_42 (dk_at dksX1_forgets_3 10 rfl rfl)
theorem dX1_forgets_82 : decode cX1_forgets 82 = .ok (.getfield 75, 3) := dk_180 0 75 (dk_at dksX1_forgets_3 11 rfl rfl)
theorem dX1_forgets_85 : decode cX1_forgets 85 = .ok (.aload_n 0, 1) := dk_42 (dk_at dksX1_forgets_3 14 rfl rfl)
theorem dX1_forgets_86 : decode cX1_forgets 86 = .ok (.getfield 112, 3) := dk_180 0 112 (dk_at dksX1_forgets_3 15 rfl rfl)
theorem dX1_forgets_89 : decode cX1_forgets 89 = .ok (.iload 4, 2) := dk_21 4 (dk_at dksX1_forgets_3 18 rfl rfl)
theorem dX1_forgets_91 : decode cX1_forgets 91 = .ok (.iconst 1, 1) := dk_4 (dk_at dksX1_forgets_3 20 rfl rfl)
theorem dX1_forgets_92 : decode cX1_forgets 92 = .ok (.isub, 1) := dk_100 (dk_at dksX1_forgets_3 21 rfl rfl)
theorem dX1_forgets_93 : decode cX1_forgets 93 = .ok (.iaload, 1) := dk_46 (dk_at dksX1_forgets_3 22 rfl rfl)
theorem dX1_forgets_94 : decode cX1_forgets 94 = .ok (.iaload, 1) := dk_46 (dk_at dksX1_forgets_3 23 rfl rfl)
theorem dX1_forgets_95 : decode cX1_forgets 95 = .ok (.aload_n 0, 1) := dk_42 (dk_at dksX1_forgets_4 0 rfl rfl)
theorem dX1_forgets_96 : decode cX1_forgets 96 = .ok (.getfield 75, 3) := dk_180 0 75 (dk_at dksX1_forgets_4 1 rfl rfl)
theorem dX1_forgets_99 : decode cX1_forgets 99 = .ok (.iload_n 2, 1) := dk_28 (dk_at dksX1_forgets_4 4 rfl rfl)
theorem dX1_forgets_100 : decode cX1_forgets 100 = .ok (.iaload, 1) := dk_46 (dk_at dksX1_forgets_4 5 rfl rfl)
theorem dX1_forgets_101 : decode cX1_forgets 101 = .ok (.if_icmp .le 25, 3) := dk_164 0 25 (dk_at dksX1_forgets_4 6 rfl rfl)
theorem dX1_forgets_104 : decode cX1_forgets 104 = .ok (.aload_n 0, 1) := dk_42 (dk_at dksX1_forgets_4 9 rfl rfl)
theorem dX1_forgets_105 : decode cX1_forgets 105 = .ok (.getfield 112, 3) := dk_180 0 112 (dk_at dksX1_forgets_4 10 rfl rfl)
theorem dX1_forgets_108 : decode cX1_forgets 108 = .ok (.iload 4, 2) := dk_21 4 (dk_at dksX1_forgets_4 13 rfl rfl)
theorem dX1_forgets_110 : decode cX1_forgets 110 = .ok (.aload_n 0, 1) := dk_42 (dk_at dksX1_forgets_4 15 rfl rfl)
theorem dX1_forgets_111 : decode cX1_forgets 111 = .ok (.getfield 112, 3) := dk_180 0 112 (dk_at dksX1_forgets_4 16 rfl rfl)
theorem dX1_forgets_114 : decode cX1_forgets 114 = .ok (.iload 4, 2) := dk_21 4 (dk_at dksX1_forgets_4 19 rfl rfl)
theorem dX1_forgets_116 : decode cX1_forgets 116 = .ok (.iconst 1, 1) := dk_4 (dk_at dksX1_forgets_4 21 rfl rfl)
theorem dX1_forgets_117 : decode cX1_forgets 117 = .ok (.isub, 1) := dk_100 (dk_at dksX1_forgets_4 22 rfl rfl)
theorem dX1_forgets_118 : decode cX1_forgets 118 = .ok (.iaload, 1) := dk_46 (dk_at dksX1_forgets_4 23 rfl rfl)
theorem dX1_forgets_119 : decode cX1_forgets 119 = .ok (.iastore, 1) := dk_79 (dk_at dksX1_forgets_5 0 rfl rfl)
theorem dX1_forgets_120 : decode cX1_forgets 120 = .ok (.iinc 4 (-1), 3) := dk_132 4 255 (dk_at dksX1_forgets_5 1 rfl rfl)
theorem dX1_forgets_123 : decode cX1_forgets 123 = .ok (.goto (-47), 3) := dk_167 255 209 (dk_at dksX1_forgets_5 4 rfl rfl)
theorem dX1_forgets_126 : decode cX1_forgets 126 = .ok (.aload_n 0, 1) := dk_42 (dk_at dksX1_forgets_5 7 rfl rfl)
theorem dX1_forgets_127 : decode cX1_forgets 127 = .ok (.getfield 112, 3) := dk_180 0 112 (dk_at dksX1_forgets_5 8 rfl rfl)
theorem dX1_forgets_130 : decode cX1_forgets 130 = .ok (.iload 4, 2) := dk_21 4 (dk_at dksX1_forgets_5 11 rfl rfl)
theorem dX1_forgets_132 : decode cX1_forgets 132 = .ok (.iload_n 2, 1) := dk_28 (dk_at dksX1_forgets_5 13 rfl rfl)
theorem dX1_forgets_133 : decode cX1_forgets 133 = .ok (.iastore, 1) := dk_79 (dk_at dksX1_forgets_5 14 rfl rfl)
theorem dX1_forgets_134 : decode cX1_forgets 134 = .ok (.iinc 2 1, 3) := dk_132 2 1 (dk_at dksX1_forgets_5 15 rfl rfl)
theorem dX1_forgets_137 : decode cX1_forgets 137 = .ok (.goto (-108), 3) := dk_167 255 148 (dk_at dksX1_forgets_5 18 rfl rfl)
theorem dX1_forgets_140 : decode cX1_forgets 140 = .ok (.iconst 0, 1) := dk_3 (dk_at dksX1_forgets_5 21 rfl rfl)
theorem dX1_forgets_141 : decode cX1_forgets 141 = .ok (.istore_n 2, 1) := dk_61 (dk_at dksX1_forgets_5 22 rfl rfl)
theorem dX1_forgets_142 : decode cX1_forgets 142 = .ok (.iload_n 2, 1) := dk_28 (dk_at dksX1_forgets_5 23 rfl rfl)
theorem dX1_forgets_143 : decode cX1_forgets 143 = .ok (.iload_n 1, 1) := dk_27 (dk_at dksX1_forgets_6 0 rfl rfl)
theorem dX1_forgets_144 : decode cX1_forgets 144 = .ok (.iconst 2, 1) := dk_5 (dk_at dksX1_forgets_6 1 rfl rfl)
theorem dX1_forgets_145 : decode cX1_forgets 145 = .ok (.idiv, 1) := dk_108 (dk_at dksX1_forgets_6 2 rfl rfl)
theorem dX1_forgets_146 : decode cX1_forgets 146 = .ok (.if_icmp .ge 59, 3) := dk_162 0 59 (dk_at dksX1_forgets_6 3 rfl rfl)
theorem dX1_forgets_149 : decode cX1_forgets 149 = .ok (.aload_n 0, 1) := dk_42 (dk_at dksX1_forgets_6 6 rfl rfl)
theorem dX1_forgets_150 : decode cX1_forgets 150 = .ok (.getfield 28, 3) := dk_180 0 28 (dk_at dksX1_forgets_6 7 rfl rfl)
theorem dX1_forgets_153 : decode cX1_forgets 153 = .ok (.sipush 564, 3) := dk_17 2 52 (dk_at dksX1_forgets_6 10 rfl rfl)
theorem dX1_forgets_156 : decode cX1_forgets 156 = .ok (.aload_n 0, 1) := dk_42 (dk_at dksX1_forgets_6 13 rfl rfl)
theorem dX1_forgets_157 : decode cX1_forgets 157 = .ok (.getfield 112, 3) := dk_180 0 112 (dk_at dksX1_forgets_6 14 rfl rfl)
theorem dX1_forgets_160 : decode cX1_forgets 160 = .ok (.iload_n 2, 1) := dk_28 (dk_at dksX1_forgets_6 17 rfl rfl)
theorem dX1_forgets_161 : decode cX1_forgets 161 = .ok (.iaload, 1) := dk_46 (dk_at dksX1_forgets_6 18 rfl rfl)
theorem dX1_forgets_162 : decode cX1_forgets 162 = .ok (.iadd, 1) := dk_96 (dk_at dksX1_forgets_6 19 rfl rfl)
theorem dX1_forgets_163 : decode cX1_forgets 163 = .ok (.iconst 0, 1) := dk_3 (dk_at dksX1_forgets_6 20 rfl rfl)
theorem dX1_forgets_164 : decode cX1_forgets 164 = .ok (.bastore, 1) := dk_84 (dk_at dksX1_forgets_6 21 rfl rfl)
theorem dX1_forgets_165 : decode cX1_forgets 165 = .ok (.aload_n 0, 1) := dk_42 (dk_at dksX1_forgets_6 22 rfl rfl)
theorem dX1_forgets_166 : decode cX1_forgets 166 = .ok (.sipush 564, 3) := dk_17 2 52 (dk_at dksX1_forgets_7 0 rfl rfl)
theorem dX1_forgets_169 : decode cX1_forgets 169 = .ok (.aload_n 0, 1) := dk_42 (dk_at dksX1_forgets_7 3 rfl rfl)
theorem dX1_forgets_170 : decode cX1_forgets 170 = .ok (.getfield 112, 3) := dk_180 0 112 (dk_at dksX1_forgets_7 4 rfl rfl)
theorem dX1_forgets_173 : decode cX1_forgets 173 = .ok (.iload_n 2, 1) := dk_28 (dk_at dksX1_forgets_7 7 rfl rfl)
theorem dX1_forgets_174 : decode cX1_forgets 174 = .ok (.iaload, 1) := dk_46 (dk_at dksX1_forgets_7 8 rfl rfl)
theorem dX1_forgets_175 : decode cX1_forgets 175 = .ok (.iadd, 1) := dk_96 (dk_at dksX1_forgets_7 9 rfl rfl)
theorem dX1_forgets_176 : decode cX1_forgets 176 = .ok (.invokevirtual 202, 3) := dk_182 0 202 (dk_at dksX1_forgets_7 10 rfl rfl)
theorem dX1_forgets_179 : decode cX1_forgets 179 = .ok (.aload_n 0, 1) := dk_42 (dk_at dksX1_forgets_7 13 rfl rfl)
theorem dX1_forgets_180 : decode cX1_forgets 180 = .ok (.dup, 1) := dk_89 (dk_at dksX1_forgets_7 14 rfl rfl)
theorem dX1_forgets_181 : decode cX1_forgets 181 = .ok (.getfield 175, 3) := dk_180 0 175 (dk_at dksX1_forgets_7 15 rfl rfl)
theorem dX1_forgets_184 : decode cX1_forgets 184 = .ok (.iconst 1, 1) := dk_4 (dk_at dksX1_forgets_7 18 rfl rfl)
theorem dX1_forgets_185 : decode cX1_forgets 185 = .ok (.isub, 1) := dk_100 (dk_at dksX1_forgets_7 19 rfl rfl)
theorem dX1_forgets_186 : decode cX1_forgets 186 = .ok (.putfield 175, 3) := dk_181 0 175 (dk_at dksX1_forgets_7 20 rfl rfl)
theorem dX1_forgets_189 : decode cX1_forgets 189 = .ok (.aload_n 0, 1) := dk_42 (dk_at dksX1_forgets_7 23 rfl rfl)
theorem dX1_forgets_190 : decode cX1_forgets 190 = .ok (.dup, 1) := dk_89 (dk_at dksX1_forgets_8 0 rfl rfl)
theorem dX1_forgets_191 : decode cX1_forgets 191 = .ok (.getfield 172, 3) := dk_180 0 172 (dk_at dksX1_forgets_8 1 rfl rfl)
theorem dX1_forgets_194 : decode cX1_forgets 194 = .ok (.iconst 1, 1) := dk_4 (dk_at dksX1_forgets_8 4 rfl rfl)
theorem dX1_forgets_195 : decode cX1_forgets 195 = .ok (.iadd, 1) := dk_96 (dk_at dksX1_forgets_8 5 rfl rfl)
theorem dX1_forgets_196 : decode cX1_forgets 196 = .ok (.putfield 172, 3) := dk_181 0 172 (dk_at dksX1_forgets_8 6 rfl rfl)
theorem dX1_forgets_199 : decode cX1_forgets 199 = .ok (.iinc 2 1, 3) := dk_132 2 1 (dk_at dksX1_forgets_8 9 rfl rfl)
theorem dX1_forgets_202 : decode cX1_forgets 202 = .ok (.goto (-60), 3) := dk_167 255 196 (dk_at dksX1_forgets_8 12 rfl rfl)
theorem dX1_forgets_205 : decode cX1_forgets 205 = .ok (.iconst 0, 1) := dk_3 (dk_at dksX1_forgets_8 15 rfl rfl)
theorem dX1_forgets_206 : decode cX1_forgets 206 = .ok (.istore_n 2, 1) := dk_61 (dk_at dksX1_forgets_8 16 rfl rfl)
theorem dX1_forgets_207 : decode cX1_forgets 207 = .ok (.iload_n 2, 1) := dk_28 (dk_at dksX1_forgets_8 17 rfl rfl)
theorem dX1_forgets_208 : decode cX1_forgets 208 = .ok (.aload_n 0, 1) := dk_42 (dk_at dksX1_forgets_8 18 rfl rfl)
theorem dX1_forgets_209 : decode cX1_forgets 209 = .ok (.getfield 148, 3) := dk_180 0 148 (dk_at dksX1_forgets_8 19 rfl rfl)
theorem dX1_forgets_212 : decode cX1_forgets 212 = .ok (.if_icmp .ge 19, 3) := dk_162 0 19 (dk_at dksX1_forgets_9 0 rfl rfl)
theorem dX1_forgets_215 : decode cX1_forgets 215 = .ok (.aload_n 0, 1) := dk_42 (dk_at dksX1_forgets_9 3 rfl rfl)
theorem dX1_forgets_216 : decode cX1_forgets 216 = .ok (.getfield 75, 3) := dk_180 0 75 (dk_at dksX1_forgets_9 4 rfl rfl)
theorem dX1_forgets_219 : decode cX1_forgets 219 = .ok (.iload_n 2, 1) := dk_28 (dk_at dksX1_forgets_9 7 rfl rfl)
theorem dX1_forgets_220 : decode cX1_forgets 220 = .ok (.dup2, 1) := dk_92 (dk_at dksX1_forgets_9 8 rfl rfl)
theorem dX1_forgets_221 : decode cX1_forgets 221 = .ok (.iaload, 1) := dk_46 (dk_at dksX1_forgets_9 9 rfl rfl)
theorem dX1_forgets_222 : decode cX1_forgets 222 = .ok (.iconst 2, 1) := dk_5 (dk_at dksX1_forgets_9 10 rfl rfl)
theorem dX1_forgets_223 : decode cX1_forgets 223 = .ok (.idiv, 1) := dk_108 (dk_at dksX1_forgets_9 11 rfl rfl)
theorem dX1_forgets_224 : decode cX1_forgets 224 = .ok (.iastore, 1) := dk_79 (dk_at dksX1_forgets_9 12 rfl rfl)
theorem dX1_forgets_225 : decode cX1_forgets 225 = .ok (.iinc 2 1, 3) := dk_132 2 1 (dk_at dksX1_forgets_9 13 rfl rfl)
theorem dX1_forgets_228 : decode cX1_forgets 228 = .ok (.goto (-21), 3) := dk_167 255 235 (dk_at dksX1_forgets_9 16 rfl rfl)
theorem dX1_forgets_231 : decode cX1_forgets 231 = .ok (.return_, 1) := dk_177 (dk_at dksX1_forgets_9 19 rfl rfl)
abbrev cX1_isReason : ByteArray := prog_5_method_28_code
def yX1_isReason : MethodName := ⟨RX1, "isReason", "(I)Z"⟩
def dkwX1_isReason_3 : List UInt8 := [167, 255, 194, 29, 172]
abbrev dktX1_isReason_3 : List UInt8 := dkwX1_isReason_3 ++ []
def dkwX1_isReason_2 : List UInt8 := [46, 153, 0, 18, 42, 180, 0, 54, 21, 4, 46, 27, 160, 0, 7, 4, 167, 0, 4, 3, 62, 132, 2, 1]
abbrev dktX1_isReason_2 : List UInt8 := dkwX1_isReason_2 ++ dktX1_isReason_3
def dkwX1_isReason_1 : List UInt8 := [162, 0, 51, 29, 154, 0, 47, 42, 180, 0, 36, 28, 46, 184, 0, 219, 54, 4, 42, 180, 0, 48, 21, 4]
abbrev dktX1_isReason_1 : List UInt8 := dkwX1_isReason_1 ++ dktX1_isReason_2
def dkwX1_isReason_0 : List UInt8 := [42, 180, 0, 15, 27, 46, 61, 3, 62, 28, 42, 180, 0, 15, 27, 46, 42, 180, 0, 19, 27, 46, 96]
abbrev dktX1_isReason_0 : List UInt8 := dkwX1_isReason_0 ++ dktX1_isReason_1
theorem dksX1_isReason_0 : cX1_isReason.data.toList.drop 0 = dktX1_isReason_0 := by decide +kernel
theorem dksX1_isReason_1 : cX1_isReason.data.toList.drop 23 = dktX1_isReason_1 := dk_seg dksX1_isReason_0 23 rfl rfl
theorem dksX1_isReason_2 : cX1_isReason.data.toList.drop 47 = dktX1_isReason_2 := dk_seg dksX1_isReason_1 24 rfl rfl
theorem dksX1_isReason_3 : cX1_isReason.data.toList.drop 71 = dktX1_isReason_3 := dk_seg dksX1_isReason_2 24 rfl rfl
theorem dX1_isReason_0 : decode cX1_isReason 0 = .ok (.aload_n 0, 1) := dk_42 (dk_at dksX1_isReason_0 0 rfl rfl)
theorem dX1_isReason_1 : decode cX1_isReason 1 = .ok (.getfield 15, 3) := dk_180 0 15 (dk_at dksX1_isReason_0 1 rfl rfl)
theorem dX1_isReason_4 : decode cX1_isReason 4 = .ok (.iload_n 1, 1) := dk_27 (dk_at dksX1_isReason_0 4 rfl rfl)
theorem dX1_isReason_5 : decode cX1_isReason 5 = .ok (.iaload, 1) := dk_46 (dk_at dksX1_isReason_0 5 rfl rfl)
theorem dX1_isReason_6 : decode cX1_isReason 6 = .ok (.istore_n 2, 1) := dk_61 (dk_at dksX1_isReason_0 6 rfl rfl)
theorem dX1_isReason_7 : decode cX1_isReason 7 = .ok (.iconst 0, 1) := dk_3 (dk_at dksX1_isReason_0 7 rfl rfl)
theorem dX1_isReason_8 : decode cX1_isReason 8 = .ok (.istore_n 3, 1) := dk_62 (dk_at dksX1_isReason_0 8 rfl rfl)
theorem dX1_isReason_9 : decode cX1_isReason 9 = .ok (.iload_n 2, 1) := dk_28 (dk_at dksX1_isReason_0 9 rfl rfl)
theorem dX1_isReason_10 : decode cX1_isReason 10 = .ok (.aload_n 0, 1) := dk_42 (dk_at dksX1_isReason_0 10 rfl rfl)
theorem dX1_isReason_11 : decode cX1_isReason 11 = .ok (.getfield 15, 3) := dk_180 0 15 (dk_at dksX1_isReason_0 11 rfl rfl)
theorem dX1_isReason_14 : decode cX1_isReason 14 = .ok (.iload_n 1, 1) := dk_27 (dk_at dksX1_isReason_0 14 rfl rfl)
theorem dX1_isReason_15 : decode cX1_isReason 15 = .ok (.iaload, 1) := dk_46 (dk_at dksX1_isReason_0 15 rfl rfl)
theorem dX1_isReason_16 : decode cX1_isReason 16 = .ok (.aload_n 0, 1) := dk_42 (dk_at dksX1_isReason_0 16 rfl rfl)
theorem dX1_isReason_17 : decode cX1_isReason 17 = .ok (.getfield 19, 3) := dk_180 0 19 (dk_at dksX1_isReason_0 17 rfl rfl)
theorem dX1_isReason_20 : decode cX1_isReason 20 = .ok (.iload_n 1, 1) := dk_27 (dk_at dksX1_isReason_0 20 rfl rfl)
theorem dX1_isReason_21 : decode cX1_isReason 21 = .ok (.iaload, 1) := dk_46 (dk_at dksX1_isReason_0 21 rfl rfl)
theorem dX1_isReason_22 : decode cX1_isReason 22 = .ok (.iadd, 1) := dk_96 (dk_at dksX1_isReason_0 22 rfl rfl)
theorem dX1_isReason_23 : decode cX1_isReason 23 = .ok (.if_icmp .ge 51, 3) := dk_162 0 51 (dk_at dksX1_isReason_1 0 rfl rfl)
theorem dX1_isReason_26 : decode cX1_isReason 26 = .ok (.iload_n 3, 1) := dk_29 (dk_at dksX1_isReason_1 3 rfl rfl)
theorem dX1_isReason_27 : decode cX1_isReason 27 = .ok (.ifCond .ne 47, 3) := dk_154 0 47 (dk_at dksX1_isReason_1 4 rfl rfl)
theorem dX1_isReason_30 : decode cX1_isReason 30 = .ok (.aload_n 0, 1) := dk_42 (dk_at dksX1_isReason_1 7 rfl rfl)
theorem dX1_isReason_31 : decode cX1_isReason 31 = .ok (.getfield 36, 3) := dk_180 0 36 (dk_at dksX1_isReason_1 8 rfl rfl)
theorem dX1_isReason_34 : decode cX1_isReason 34 = .ok (.iload_n 2, 1) := dk_28 (dk_at dksX1_isReason_1 11 rfl rfl)
theorem dX1_isReason_35 : decode cX1_isReason 35 = .ok (.iaload, 1) := dk_46 (dk_at dksX1_isReason_1 12 rfl rfl)
theorem dX1_isReason_36 : decode cX1_isReason 36 = .ok (.invokestatic 219, 3) := dk_184 0 219 (dk_at dksX1_isReason_1 13 rfl rfl)
theorem dX1_isReason_39 : decode cX1_isReason 39 = .ok (.istore 4, 2) := dk_54 4 (dk_at dksX1_isReason_1 16 rfl rfl)
theorem dX1_isReason_41 : decode cX1_isReason 41 = .ok (.aload_n 0, 1) := dk_42 (dk_at dksX1_isReason_1 18 rfl rfl)
theorem dX1_isReason_42 : decode cX1_isReason 42 = .ok (.getfield 48, 3) := dk_180 0 48 (dk_at dksX1_isReason_1 19 rfl rfl)
theorem dX1_isReason_45 : decode cX1_isReason 45 = .ok (.iload 4, 2) := dk_21 4 (dk_at dksX1_isReason_1 22 rfl rfl)
theorem dX1_isReason_47 : decode cX1_isReason 47 = .ok (.iaload, 1) := dk_46 (dk_at dksX1_isReason_2 0 rfl rfl)
theorem dX1_isReason_48 : decode cX1_isReason 48 = .ok (.ifCond .eq 18, 3) := dk_153 0 18 (dk_at dksX1_isReason_2 1 rfl rfl)
theorem dX1_isReason_51 : decode cX1_isReason 51 = .ok (.aload_n 0, 1) := dk_42 (dk_at dksX1_isReason_2 4 rfl rfl)
theorem dX1_isReason_52 : decode cX1_isReason 52 = .ok (.getfield 54, 3) := dk_180 0 54 (dk_at dksX1_isReason_2 5 rfl rfl)
theorem dX1_isReason_55 : decode cX1_isReason 55 = .ok (.iload 4, 2) := dk_21 4 (dk_at dksX1_isReason_2 8 rfl rfl)
theorem dX1_isReason_57 : decode cX1_isReason 57 = .ok (.iaload, 1) := dk_46 (dk_at dksX1_isReason_2 10 rfl rfl)
theorem dX1_isReason_58 : decode cX1_isReason 58 = .ok (.iload_n 1, 1) := dk_27 (dk_at dksX1_isReason_2 11 rfl rfl)
theorem dX1_isReason_59 : decode cX1_isReason 59 = .ok (.if_icmp .ne 7, 3) := dk_160 0 7 (dk_at dksX1_isReason_2 12 rfl rfl)
theorem dX1_isReason_62 : decode cX1_isReason 62 = .ok (.iconst 1, 1) := dk_4 (dk_at dksX1_isReason_2 15 rfl rfl)
theorem dX1_isReason_63 : decode cX1_isReason 63 = .ok (.goto 4, 3) := dk_167 0 4 (dk_at dksX1_isReason_2 16 rfl rfl)
theorem dX1_isReason_66 : decode cX1_isReason 66 = .ok (.iconst 0, 1) := dk_3 (dk_at dksX1_isReason_2 19 rfl rfl)
theorem dX1_isReason_67 : decode cX1_isReason 67 = .ok (.istore_n 3, 1) := dk_62 (dk_at dksX1_isReason_2 20 rfl rfl)
theorem dX1_isReason_68 : decode cX1_isReason 68 = .ok (.iinc 2 1, 3) := dk_132 2 1 (dk_at dksX1_isReason_2 21 rfl rfl)
theorem dX1_isReason_71 : decode cX1_isReason 71 = .ok (.goto (-62), 3) := dk_167 255 194 (dk_at dksX1_isReason_3 0 rfl rfl)
theorem dX1_isReason_74 : decode cX1_isReason 74 = .ok (.iload_n 3, 1) := dk_29 (dk_at dksX1_isReason_3 3 rfl rfl)
theorem dX1_isReason_75 : decode cX1_isReason 75 = .ok (.ireturn, 1) := dk_172 (dk_at dksX1_isReason_3 4 rfl rfl)
abbrev cX1_firstAssumed : ByteArray := prog_5_method_36_code
def yX1_firstAssumed : MethodName := ⟨RX1, "firstAssumed", "()I"⟩
def dkwX1_firstAssumed_1 : List UInt8 := [180, 0, 78, 27, 46, 172, 132, 1, 1, 167, 255, 225, 3, 172]
abbrev dktX1_firstAssumed_1 : List UInt8 := dkwX1_firstAssumed_1 ++ []
def dkwX1_firstAssumed_0 : List UInt8 := [3, 60, 27, 42, 180, 0, 154, 162, 0, 29, 42, 42, 180, 0, 78, 27, 46, 182, 0, 198, 154, 0, 10, 42]
abbrev dktX1_firstAssumed_0 : List UInt8 := dkwX1_firstAssumed_0 ++ dktX1_firstAssumed_1
theorem dksX1_firstAssumed_0 : cX1_firstAssumed.data.toList.drop 0 = dktX1_firstAssumed_0 := by decide +kernel
theorem dksX1_firstAssumed_1 : cX1_firstAssumed.data.toList.drop 24 = dktX1_firstAssumed_1 := dk_seg dksX1_firstAssumed_0 24 rfl rfl
theorem dX1_firstAssumed_0 : decode cX1_firstAssumed 0 = .ok (.iconst 0, 1) := dk_3 (dk_at dksX1_firstAssumed_0 0 rfl rfl)
theorem dX1_firstAssumed_1 : decode cX1_firstAssumed 1 = .ok (.istore_n 1, 1) := dk_60 (dk_at dksX1_firstAssumed_0 1 rfl rfl)
theorem dX1_firstAssumed_2 : decode cX1_firstAssumed 2 = .ok (.iload_n 1, 1) := dk_27 (dk_at dksX1_firstAssumed_0 2 rfl rfl)
theorem dX1_firstAssumed_3 : decode cX1_firstAssumed 3 = .ok (.aload_n 0, 1) := dk_42 (dk_at dksX1_firstAssumed_0 3 rfl rfl)
theorem dX1_firstAssumed_4 : decode cX1_firstAssumed 4 = .ok (.getfield 154, 3) := dk_180 0 154 (dk_at dksX1_firstAssumed_0 4 rfl rfl)
theorem dX1_firstAssumed_7 : decode cX1_firstAssumed 7 = .ok (.if_icmp .ge 29, 3) := dk_162 0 29 (dk_at dksX1_firstAssumed_0 7 rfl rfl)
theorem dX1_firstAssumed_10 : decode cX1_firstAssumed 10 = .ok (.aload_n 0, 1) := dk_42 (dk_at dksX1_firstAssumed_0 10 rfl rfl)
theorem dX1_firstAssumed_11 : decode cX1_firstAssumed 11 = .ok (.aload_n 0, 1) := dk_42 (dk_at dksX1_firstAssumed_0 11 rfl rfl)
theorem dX1_firstAssumed_12 : decode cX1_firstAssumed 12 = .ok (.getfield 78, 3) := dk_180 0 78 (dk_at dksX1_firstAssumed_0 12 rfl rfl)
theorem dX1_firstAssumed_15 : decode cX1_firstAssumed 15 = .ok (.iload_n 1, 1) := dk_27 (dk_at dksX1_firstAssumed_0 15 rfl rfl)
theorem dX1_firstAssumed_16 : decode cX1_firstAssumed 16 = .ok (.iaload, 1) := dk_46 (dk_at dksX1_firstAssumed_0 16 rfl rfl)
theorem dX1_firstAssumed_17 : decode cX1_firstAssumed 17 = .ok (.invokevirtual 198, 3) := dk_182 0 198 (dk_at dksX1_firstAssumed_0 17 rfl rfl)
theorem dX1_firstAssumed_20 : decode cX1_firstAssumed 20 = .ok (.ifCond .ne 10, 3) := dk_154 0 10 (dk_at dksX1_firstAssumed_0 20 rfl rfl)
theorem dX1_firstAssumed_23 : decode cX1_firstAssumed 23 = .ok (.aload_n 0, 1) := dk_42 (dk_at dksX1_firstAssumed_0 23 rfl rfl)
theorem dX1_firstAssumed_24 : decode cX1_firstAssumed 24 = .ok (.getfield 78, 3) := dk_180 0 78 (dk_at dksX1_firstAssumed_1 0 rfl rfl)
theorem dX1_firstAssumed_27 : decode cX1_firstAssumed 27 = .ok (.iload_n 1, 1) := dk_27 (dk_at dksX1_firstAssumed_1 3 rfl rfl)
theorem dX1_firstAssumed_28 : decode cX1_firstAssumed 28 = .ok (.iaload, 1) := dk_46 (dk_at dksX1_firstAssumed_1 4 rfl rfl)
theorem dX1_firstAssumed_29 : decode cX1_firstAssumed 29 = .ok (.ireturn, 1) := dk_172 (dk_at dksX1_firstAssumed_1 5 rfl rfl)
theorem dX1_firstAssumed_30 : decode cX1_firstAssumed 30 = .ok (.iinc 1 1, 3) := dk_132 1 1 (dk_at dksX1_firstAssumed_1 6 rfl rfl)
theorem dX1_firstAssumed_33 : decode cX1_firstAssumed 33 = .ok (.goto (-31), 3) := dk_167 255 225 (dk_at dksX1_firstAssumed_1 9 rfl rfl)
theorem dX1_firstAssumed_36 : decode cX1_firstAssumed 36 = .ok (.iconst 0, 1) := dk_3 (dk_at dksX1_firstAssumed_1 12 rfl rfl)
theorem dX1_firstAssumed_37 : decode cX1_firstAssumed 37 = .ok (.ireturn, 1) := dk_172 (dk_at dksX1_firstAssumed_1 13 rfl rfl)
abbrev cX1_noBy : ByteArray := prog_5_method_34_code
def yX1_noBy : MethodName := ⟨RX1, "noBy", "(I)I"⟩
def dkwX1_noBy_10 : List UInt8 := [42, 182, 1, 79, 172]
abbrev dktX1_noBy_10 : List UInt8 := dkwX1_noBy_10 ++ []
def dkwX1_noBy_9 : List UInt8 := [180, 0, 103, 42, 89, 180, 1, 22, 90, 4, 96, 181, 1, 22, 21, 4, 116, 79, 132, 3, 1, 167, 255, 172]
abbrev dktX1_noBy_9 : List UInt8 := dkwX1_noBy_9 ++ dktX1_noBy_10
def dkwX1_noBy_8 : List UInt8 := [153, 0, 40, 42, 180, 0, 91, 42, 89, 180, 0, 191, 90, 4, 96, 181, 0, 191, 21, 4, 79, 42]
abbrev dktX1_noBy_8 : List UInt8 := dkwX1_noBy_8 ++ dktX1_noBy_9
def dkwX1_noBy_7 : List UInt8 := [159, 0, 25, 42, 180, 0, 100, 21, 4, 184, 0, 219, 51, 153, 0, 49, 42, 21, 4, 182, 0, 198]
abbrev dktX1_noBy_7 : List UInt8 := dkwX1_noBy_7 ++ dktX1_noBy_8
def dkwX1_noBy_6 : List UInt8 := [181, 0, 191, 3, 62, 29, 42, 180, 0, 154, 162, 0, 82, 42, 180, 0, 78, 29, 46, 54, 4, 21, 4, 27]
abbrev dktX1_noBy_6 : List UInt8 := dkwX1_noBy_6 ++ dktX1_noBy_7
def dkwX1_noBy_5 : List UInt8 := [167, 0, 16, 42, 42, 180, 0, 54, 21, 4, 46, 21, 4, 182, 1, 82, 132, 3, 255, 167, 255, 164, 42, 3]
abbrev dktX1_noBy_5 : List UInt8 := dkwX1_noBy_5 ++ dktX1_noBy_6
def dkwX1_noBy_4 : List UInt8 := [167, 0, 40, 42, 180, 0, 54, 21, 4, 46, 17, 252, 19, 160, 0, 14, 42, 180, 0, 100, 21, 4, 4, 84]
abbrev dktX1_noBy_4 : List UInt8 := dkwX1_noBy_4 ++ dktX1_noBy_5
def dkwX1_noBy_3 : List UInt8 := [167, 0, 64, 42, 180, 0, 51, 21, 4, 46, 154, 0, 17, 42, 42, 180, 0, 106, 3, 21, 4, 182, 0, 234]
abbrev dktX1_noBy_3 : List UInt8 := dkwX1_noBy_3 ++ dktX1_noBy_4
def dkwX1_noBy_2 : List UInt8 := [155, 0, 94, 42, 180, 0, 66, 29, 46, 184, 0, 219, 54, 4, 42, 180, 0, 94, 21, 4, 51, 154, 0, 6]
abbrev dktX1_noBy_2 : List UInt8 := dkwX1_noBy_2 ++ dktX1_noBy_3
def dkwX1_noBy_1 : List UInt8 := [167, 255, 238, 27, 184, 0, 219, 61, 42, 180, 0, 94, 28, 4, 84, 42, 180, 0, 136, 4, 100, 62, 29]
abbrev dktX1_noBy_1 : List UInt8 := dkwX1_noBy_1 ++ dktX1_noBy_2
def dkwX1_noBy_0 : List UInt8 := [42, 182, 1, 25, 4, 61, 28, 42, 180, 0, 121, 163, 0, 16, 42, 180, 0, 100, 28, 3, 84, 132, 2, 1]
abbrev dktX1_noBy_0 : List UInt8 := dkwX1_noBy_0 ++ dktX1_noBy_1
theorem dksX1_noBy_0 : cX1_noBy.data.toList.drop 0 = dktX1_noBy_0 := by decide +kernel
theorem dksX1_noBy_1 : cX1_noBy.data.toList.drop 24 = dktX1_noBy_1 := dk_seg dksX1_noBy_0 24 rfl rfl
theorem dksX1_noBy_2 : cX1_noBy.data.toList.drop 47 = dktX1_noBy_2 := dk_seg dksX1_noBy_1 23 rfl rfl
theorem dksX1_noBy_3 : cX1_noBy.data.toList.drop 71 = dktX1_noBy_3 := dk_seg dksX1_noBy_2 24 rfl rfl
theorem dksX1_noBy_4 : cX1_noBy.data.toList.drop 95 = dktX1_noBy_4 := dk_seg dksX1_noBy_3 24 rfl rfl
theorem dksX1_noBy_5 : cX1_noBy.data.toList.drop 119 = dktX1_noBy_5 := dk_seg dksX1_noBy_4 24 rfl rfl
theorem dksX1_noBy_6 : cX1_noBy.data.toList.drop 143 = dktX1_noBy_6 := dk_seg dksX1_noBy_5 24 rfl rfl
theorem dksX1_noBy_7 : cX1_noBy.data.toList.drop 167 = dktX1_noBy_7 := dk_seg dksX1_noBy_6 24 rfl rfl
theorem dksX1_noBy_8 : cX1_noBy.data.toList.drop 189 = dktX1_noBy_8 := dk_seg dksX1_noBy_7 22 rfl rfl
theorem dksX1_noBy_9 : cX1_noBy.data.toList.drop 211 = dktX1_noBy_9 := dk_seg dksX1_noBy_8 22 rfl rfl
theorem dksX1_noBy_10 : cX1_noBy.data.toList.drop 235 = dktX1_noBy_10 := dk_seg dksX1_noBy_9 24 rfl rfl
theorem dX1_noBy_0 : decode cX1_noBy 0 = .ok (.aload_n 0, 1) := dk_42 (dk_at dksX1_noBy_0 0 rfl rfl)
theorem dX1_noBy_1 : decode cX1_noBy 1 = .ok (.invokevirtual 281, 3) := dk_182 1 25 (dk_at dksX1_noBy_0 1 rfl rfl)
theorem dX1_noBy_4 : decode cX1_noBy 4 = .ok (.iconst 1, 1) := dk_4 (dk_at dksX1_noBy_0 4 rfl rfl)
theorem dX1_noBy_5 : decode cX1_noBy 5 = .ok (.istore_n 2, 1) := dk_61 (dk_at dksX1_noBy_0 5 rfl rfl)
theorem dX1_noBy_6 : decode cX1_noBy 6 = .ok (.iload_n 2, 1) := dk_28 (dk_at dksX1_noBy_0 6 rfl rfl)
theorem dX1_noBy_7 : decode cX1_noBy 7 = .ok (.aload_n 0, 1) := dk_42 (dk_at dksX1_noBy_0 7 rfl rfl)
theorem dX1_noBy_8 : decode cX1_noBy 8 = .ok (.getfield 121, 3) := dk_180 0 121 (dk_at dksX1_noBy_0 8 rfl rfl)
theorem dX1_noBy_11 : decode cX1_noBy 11 = .ok (.if_icmp .gt 16, 3) := dk_163 0 16 (dk_at dksX1_noBy_0 11 rfl rfl)
theorem dX1_noBy_14 : decode cX1_noBy 14 = .ok (.aload_n 0, 1) := dk_42 (dk_at dksX1_noBy_0 14 rfl rfl)
theorem dX1_noBy_15 : decode cX1_noBy 15 = .ok (.getfield 100, 3) := dk_180 0 100 (dk_at dksX1_noBy_0 15 rfl rfl)
theorem dX1_noBy_18 : decode cX1_noBy 18 = .ok (.iload_n 2, 1) := dk_28 (dk_at dksX1_noBy_0 18 rfl rfl)
theorem dX1_noBy_19 : decode cX1_noBy 19 = .ok (.iconst 0, 1) := dk_3 (dk_at dksX1_noBy_0 19 rfl rfl)
theorem dX1_noBy_20 : decode cX1_noBy 20 = .ok (.bastore, 1) := dk_84 (dk_at dksX1_noBy_0 20 rfl rfl)
theorem dX1_noBy_21 : decode cX1_noBy 21 = .ok (.iinc 2 1, 3) := dk_132 2 1 (dk_at dksX1_noBy_0 21 rfl rfl)
theorem dX1_noBy_24 : decode cX1_noBy 24 = .ok (.goto (-18), 3) := dk_167 255 238 (dk_at dksX1_noBy_1 0 rfl rfl)
theorem dX1_noBy_27 : decode cX1_noBy 27 = .ok (.iload_n 1, 1) := dk_27 (dk_at dksX1_noBy_1 3 rfl rfl)
theorem dX1_noBy_28 : decode cX1_noBy 28 = .ok (.invokestatic 219, 3) := dk_184 0 219 (dk_at dksX1_noBy_1 4 rfl rfl)
theorem dX1_noBy_31 : decode cX1_noBy 31 = .ok (.istore_n 2, 1) := dk_61 (dk_at dksX1_noBy_1 7 rfl rfl)
theorem dX1_noBy_32 : decode cX1_noBy 32 = .ok (.aload_n 0, 1) := dk_42 (dk_at dksX1_noBy_1 8 rfl rfl)
theorem dX1_noBy_33 : decode cX1_noBy 33 = .ok (.getfield 94, 3) := dk_180 0 94 (dk_at dksX1_noBy_1 9 rfl rfl)
theorem dX1_noBy_36 : decode cX1_noBy 36 = .ok (.iload_n 2, 1) := dk_28 (dk_at dksX1_noBy_1 12 rfl rfl)
theorem dX1_noBy_37 : decode cX1_noBy 37 = .ok (.iconst 1, 1) := dk_4 (dk_at dksX1_noBy_1 13 rfl rfl)
theorem dX1_noBy_38 : decode cX1_noBy 38 = .ok (.bastore, 1) := dk_84 (dk_at dksX1_noBy_1 14 rfl rfl)
theorem dX1_noBy_39 : decode cX1_noBy 39 = .ok (.aload_n 0, 1) := dk_42 (dk_at dksX1_noBy_1 15 rfl rfl)
theorem dX1_noBy_40 : decode cX1_noBy 40 = .ok (.getfield 136, 3) := dk_180 0 136 (dk_at dksX1_noBy_1 16 rfl rfl)
theorem dX1_noBy_43 : decode cX1_noBy 43 = .ok (.iconst 1, 1) := dk_4 (dk_at dksX1_noBy_1 19 rfl rfl)
theorem dX1_noBy_44 : decode cX1_noBy 44 = .ok (.isub, 1) := dk_100 (dk_at dksX1_noBy_1 20 rfl rfl)
theorem dX1_noBy_45 : decode cX1_noBy 45 = .ok (.istore_n 3, 1) := dk_62 (dk_at dksX1_noBy_1 21 rfl rfl)
theorem dX1_noBy_46 : decode cX1_noBy 46 = .ok (.iload_n 3, 1) := dk_29 (dk_at dksX1_noBy_1 22 rfl rfl)
theorem dX1_noBy_47 : decode cX1_noBy 47 = .ok (.ifCond .lt 94, 3) := dk_155 0 94 (dk_at dksX1_noBy_2 0 rfl rfl)
theorem dX1_noBy_50 : decode cX1_noBy 50 = .ok (.aload_n 0, 1) := dk_42 (dk_at dksX1_noBy_2 3 rfl rfl)
theorem dX1_noBy_51 : decode cX1_noBy 51 = .ok (.getfield 66, 3) := dk_180 0 66 (dk_at dksX1_noBy_2 4 rfl rfl)
theorem dX1_noBy_54 : decode cX1_noBy 54 = .ok (.iload_n 3, 1) := dk_29 (dk_at dksX1_noBy_2 7 rfl rfl)
theorem dX1_noBy_55 : decode cX1_noBy 55 = .ok (.iaload, 1) := dk_46 (dk_at dksX1_noBy_2 8 rfl rfl)
theorem dX1_noBy_56 : decode cX1_noBy 56 = .ok (.invokestatic 219, 3) := dk_184 0 219 (dk_at dksX1_noBy_2 9 rfl rfl)
theorem dX1_noBy_59 : decode cX1_noBy 59 = .ok (.istore 4, 2) := dk_54 4 (dk_at dksX1_noBy_2 12 rfl rfl)
theorem dX1_noBy_61 : decode cX1_noBy 61 = .ok (.aload_n 0, 1) := dk_42 (dk_at dksX1_noBy_2 14 rfl rfl)
theorem dX1_noBy_62 : decode cX1_noBy 62 = .ok (.getfield 94, 3) := dk_180 0 94 (dk_at dksX1_noBy_2 15 rfl rfl)
theorem dX1_noBy_65 : decode cX1_noBy 65 = .ok (.iload 4, 2) := dk_21 4 (dk_at dksX1_noBy_2 18 rfl rfl)
theorem dX1_noBy_67 : decode cX1_noBy 67 = .ok (.baload, 1) := dk_51 (dk_at dksX1_noBy_2 20 rfl rfl)
theorem dX1_noBy_68 : decode cX1_noBy 68 = .ok (.ifCond .ne 6, 3) := dk_154 0 6 (dk_at dksX1_noBy_2 21 rfl rfl)
theorem dX1_noBy_71 : decode cX1_noBy 71 = .ok (.goto 64, 3) := dk_167 0 64 (dk_at dksX1_noBy_3 0 rfl rfl)
theorem dX1_noBy_74 : decode cX1_noBy 74 = .ok (.aload_n 0, 1) := dk_42 (dk_at dksX1_noBy_3 3 rfl rfl)
theorem dX1_noBy_75 : decode cX1_noBy 75 = .ok (.getfield 51, 3) := dk_180 0 51 (dk_at dksX1_noBy_3 4 rfl rfl)
theorem dX1_noBy_78 : decode cX1_noBy 78 = .ok (.iload 4, 2) := dk_21 4 (dk_at dksX1_noBy_3 7 rfl rfl)
theorem dX1_noBy_80 : decode cX1_noBy 80 = .ok (.iaload, 1) := dk_46 (dk_at dksX1_noBy_3 9 rfl rfl)
theorem dX1_noBy_81 : decode cX1_noBy 81 = .ok (.ifCond .ne 17, 3) := dk_154 0 17 (dk_at dksX1_noBy_3 10 rfl rfl)
theorem dX1_noBy_84 : decode cX1_noBy 84 = .ok (.aload_n 0, 1) := dk_42 (dk_at dksX1_noBy_3 13 rfl rfl)
theorem dX1_noBy_85 : decode cX1_noBy 85 = .ok (.aload_n 0, 1) := dk_42 (dk_at dksX1_noBy_3 14 rfl rfl)
theorem dX1_noBy_86 : decode cX1_noBy 86 = .ok (.getfield 106, 3) := dk_180 0 106 (dk_at dksX1_noBy_3 15 rfl rfl)
theorem dX1_noBy_89 : decode cX1_noBy 89 = .ok (.iconst 0, 1) := dk_3 (dk_at dksX1_noBy_3 18 rfl rfl)
theorem dX1_noBy_90 : decode cX1_noBy 90 = .ok (.iload 4, 2) := dk_21 4 (dk_at dksX1_noBy_3 19 rfl rfl)
theorem dX1_noBy_92 : decode cX1_noBy 92 = .ok (.invokevirtual 234, 3) := dk_182 0 234 (dk_at dksX1_noBy_3 21 rfl rfl)
theorem dX1_noBy_95 : decode cX1_noBy 95 = .ok (.goto 40, 3) := dk_167 0 40 (dk_at dksX1_noBy_4 0 rfl rfl)
theorem dX1_noBy_98 : decode cX1_noBy 98 = .ok (.aload_n 0, 1) := dk_42 (dk_at dksX1_noBy_4 3 rfl rfl)
theorem dX1_noBy_99 : decode cX1_noBy 99 = .ok (.getfield 54, 3) := dk_180 0 54 (dk_at dksX1_noBy_4 4 rfl rfl)
theorem dX1_noBy_102 : decode cX1_noBy 102 = .ok (.iload 4, 2) := dk_21 4 (dk_at dksX1_noBy_4 7 rfl rfl)
theorem dX1_noBy_104 : decode cX1_noBy 104 = .ok (.iaload, 1) := dk_46 (dk_at dksX1_noBy_4 9 rfl rfl)
theorem dX1_noBy_105 : decode cX1_noBy 105 = .ok (.sipush (-1005), 3) := dk_17 252 19 (dk_at dksX1_noBy_4 10 rfl rfl)
theorem dX1_noBy_108 : decode cX1_noBy 108 = .ok (.if_icmp .ne 14, 3) := dk_160 0 14 (dk_at dksX1_noBy_4 13 rfl rfl)
theorem dX1_noBy_111 : decode cX1_noBy 111 = .ok (.aload_n 0, 1) := dk_42 (dk_at dksX1_noBy_4 16 rfl rfl)
theorem dX1_noBy_112 : decode cX1_noBy 112 = .ok (.getfield 100, 3) := dk_180 0 100 (dk_at dksX1_noBy_4 17 rfl rfl)
theorem dX1_noBy_115 : decode cX1_noBy 115 = .ok (.iload 4, 2) := dk_21 4 (dk_at dksX1_noBy_4 20 rfl rfl)
theorem dX1_noBy_117 : decode cX1_noBy 117 = .ok (.iconst 1, 1) := dk_4 (dk_at dksX1_noBy_4 22 rfl rfl)
theorem dX1_noBy_118 : decode cX1_noBy 118 = .ok (.bastore, 1) := dk_84 (dk_at dksX1_noBy_4 23 rfl rfl)
theorem dX1_noBy_119 : decode cX1_noBy 119 = .ok (.goto 16, 3) := dk_167 0 16 (dk_at dksX1_noBy_5 0 rfl rfl)
theorem dX1_noBy_122 : decode cX1_noBy 122 = .ok (.aload_n 0, 1) := dk_42 (dk_at dksX1_noBy_5 3 rfl rfl)
theorem dX1_noBy_123 : decode cX1_noBy 123 = .ok (.aload_n 0, 1) := dk_42 (dk_at dksX1_noBy_5 4 rfl rfl)
theorem dX1_noBy_124 : decode cX1_noBy 124 = .ok (.getfield 54, 3) := dk_180 0 54 (dk_at dksX1_noBy_5 5 rfl rfl)
theorem dX1_noBy_127 : decode cX1_noBy 127 = .ok (.iload 4, 2) := dk_21 4 (dk_at dksX1_noBy_5 8 rfl rfl)
theorem dX1_noBy_129 : decode cX1_noBy 129 = .ok (.iaload, 1) := dk_46 (dk_at dksX1_noBy_5 10 rfl rfl)
theorem dX1_noBy_130 : decode cX1_noBy 130 = .ok (.iload 4, 2) := dk_21 4 (dk_at dksX1_noBy_5 11 rfl rfl)
theorem dX1_noBy_132 : decode cX1_noBy 132 = .ok (.invokevirtual 338, 3) := dk_182 1 82 (dk_at dksX1_noBy_5 13 rfl rfl)
theorem dX1_noBy_135 : decode cX1_noBy 135 = .ok (.iinc 3 (-1), 3) := dk_132 3 255 (dk_at dksX1_noBy_5 16 rfl rfl)
theorem dX1_noBy_138 : decode cX1_noBy 138 = .ok (.goto (-92), 3) := dk_167 255 164 (dk_at dksX1_noBy_5 19 rfl rfl)
theorem dX1_noBy_141 : decode cX1_noBy 141 = .ok (.aload_n 0, 1) := dk_42 (dk_at dksX1_noBy_5 22 rfl rfl)
theorem dX1_noBy_142 : decode cX1_noBy 142 = .ok (.iconst 0, 1) := dk_3 (dk_at dksX1_noBy_5 23 rfl rfl)
theorem dX1_noBy_143 : decode cX1_noBy 143 = .ok (.putfield 191, 3) := dk_181 0 191 (dk_at dksX1_noBy_6 0 rfl rfl)
theorem dX1_noBy_146 : decode cX1_noBy 146 = .ok (.iconst 0, 1) := dk_3 (dk_at dksX1_noBy_6 3 rfl rfl)
theorem dX1_noBy_147 : decode cX1_noBy 147 = .ok (.istore_n 3, 1) := dk_62 (dk_at dksX1_noBy_6 4 rfl rfl)
theorem dX1_noBy_148 : decode cX1_noBy 148 = .ok (.iload_n 3, 1) := dk_29 (dk_at dksX1_noBy_6 5 rfl rfl)
theorem dX1_noBy_149 : decode cX1_noBy 149 = .ok (.aload_n 0, 1) := dk_42 (dk_at dksX1_noBy_6 6 rfl rfl)
theorem dX1_noBy_150 : decode cX1_noBy 150 = .ok (.getfield 154, 3) := dk_180 0 154 (dk_at dksX1_noBy_6 7 rfl rfl)
theorem dX1_noBy_153 : decode cX1_noBy 153 = .ok (.if_icmp .ge 82, 3) := dk_162 0 82 (dk_at dksX1_noBy_6 10 rfl rfl)
theorem dX1_noBy_156 : decode cX1_noBy 156 = .ok (.aload_n 0, 1) := dk_42 (dk_at dksX1_noBy_6 13 rfl rfl)
theorem dX1_noBy_157 : decode cX1_noBy 157 = .ok (.getfield 78, 3) := dk_180 0 78 (dk_at dksX1_noBy_6 14 rfl rfl)
theorem dX1_noBy_160 : decode cX1_noBy 160 = .ok (.iload_n 3, 1) := dk_29 (dk_at dksX1_noBy_6 17 rfl rfl)
theorem dX1_noBy_161 : decode cX1_noBy 161 = .ok (.iaload, 1) := dk_46 (dk_at dksX1_noBy_6 18 rfl rfl)
theorem dX1_noBy_162 : decode cX1_noBy 162 = .ok (.istore 4, 2) := dk_54 4 (dk_at dksX1_noBy_6 19 rfl rfl)
theorem dX1_noBy_164 : decode cX1_noBy 164 = .ok (.iload 4, 2) := dk_21 4 (dk_at dksX1_noBy_6 21 rfl rfl)
theorem dX1_noBy_166 : decode cX1_noBy 166 = .ok (.iload_n 1, 1) := dk_27 (dk_at dksX1_noBy_6 23 rfl rfl)
theorem dX1_noBy_167 : decode cX1_noBy 167 = .ok (.if_icmp .eq 25, 3) := dk_159 0 25 (dk_at dksX1_noBy_7 0 rfl rfl)
theorem dX1_noBy_170 : decode cX1_noBy 170 = .ok (.aload_n 0, 1) := dk_42 (dk_at dksX1_noBy_7 3 rfl rfl)
theorem dX1_noBy_171 : decode cX1_noBy 171 = .ok (.getfield 100, 3) := dk_180 0 100 (dk_at dksX1_noBy_7 4 rfl rfl)
theorem dX1_noBy_174 : decode cX1_noBy 174 = .ok (.iload 4, 2) := dk_21 4 (dk_at dksX1_noBy_7 7 rfl rfl)
theorem dX1_noBy_176 : decode cX1_noBy 176 = .ok (.invokestatic 219, 3) := dk_184 0 219 (dk_at dksX1_noBy_7 9 rfl rfl)
theorem dX1_noBy_179 : decode cX1_noBy 179 = .ok (.baload, 1) := dk_51 (dk_at dksX1_noBy_7 12 rfl rfl)
theorem dX1_noBy_180 : decode cX1_noBy 180 = .ok (.ifCond .eq 49, 3) := dk_153 0 49 (dk_at dksX1_noBy_7 13 rfl rfl)
theorem dX1_noBy_183 : decode cX1_noBy 183 = .ok (.aload_n 0, 1) := dk_42 (dk_at dksX1_noBy_7 16 rfl rfl)
theorem dX1_noBy_184 : decode cX1_noBy 184 = .ok (.iload 4, 2) := dk_21 4 (dk_at dksX1_noBy_7 17 rfl rfl)
theorem dX1_noBy_186 : decode cX1_noBy 186 = .ok (.invokevirtual 198, 3) := dk_182 0 198 (dk_at dksX1_noBy_7 19 rfl rfl)
theorem dX1_noBy_189 : decode cX1_noBy 189 = .ok (.ifCond .eq 40, 3) := dk_153 0 40 (dk_at dksX1_noBy_8 0 rfl rfl)
theorem dX1_noBy_192 : decode cX1_noBy 192 = .ok (.aload_n 0, 1) := dk_42 (dk_at dksX1_noBy_8 3 rfl rfl)
theorem dX1_noBy_193 : decode cX1_noBy 193 = .ok (.getfield 91, 3) := dk_180 0 91 (dk_at dksX1_noBy_8 4 rfl rfl)
theorem dX1_noBy_196 : decode cX1_noBy 196 = .ok (.aload_n 0, 1) := dk_42 (dk_at dksX1_noBy_8 7 rfl rfl)
theorem dX1_noBy_197 : decode cX1_noBy 197 = .ok (.dup, 1) := dk_89 (dk_at dksX1_noBy_8 8 rfl rfl)
theorem dX1_noBy_198 : decode cX1_noBy 198 = .ok (.getfield 191, 3) := dk_180 0 191 (dk_at dksX1_noBy_8 9 rfl rfl)
theorem dX1_noBy_201 : decode cX1_noBy 201 = .ok (.dup_x1, 1) := dk_90 (dk_at dksX1_noBy_8 12 rfl rfl)
theorem dX1_noBy_202 : decode cX1_noBy 202 = .ok (.iconst 1, 1) := dk_4 (dk_at dksX1_noBy_8 13 rfl rfl)
theorem dX1_noBy_203 : decode cX1_noBy 203 = .ok (.iadd, 1) := dk_96 (dk_at dksX1_noBy_8 14 rfl rfl)
theorem dX1_noBy_204 : decode cX1_noBy 204 = .ok (.putfield 191, 3) := dk_181 0 191 (dk_at dksX1_noBy_8 15 rfl rfl)
theorem dX1_noBy_207 : decode cX1_noBy 207 = .ok (.iload 4, 2) := dk_21 4 (dk_at dksX1_noBy_8 18 rfl rfl)
theorem dX1_noBy_209 : decode cX1_noBy 209 = .ok (.iastore, 1) := dk_79 (dk_at dksX1_noBy_8 20 rfl rfl)
theorem dX1_noBy_210 : decode cX1_noBy 210 = .ok (.aload_n 0, 1) := dk_42 (dk_at dksX1_noBy_8 21 rfl rfl)
theorem dX1_noBy_211 : decode cX1_noBy 211 = .ok (.getfield 103, 3) := dk_180 0 103 (dk_at dksX1_noBy_9 0 rfl rfl)
theorem dX1_noBy_214 : decode cX1_noBy 214 = .ok (.aload_n 0, 1) := dk_42 (dk_at dksX1_noBy_9 3 rfl rfl)
theorem dX1_noBy_215 : decode cX1_noBy 215 = .ok (.dup, 1) := dk_89 (dk_at dksX1_noBy_9 4 rfl rfl)
theorem dX1_noBy_216 : decode cX1_noBy 216 = .ok (.getfield 278, 3) := dk_180 1 22 (dk_at dksX1_noBy_9 5 rfl rfl)
theorem dX1_noBy_219 : decode cX1_noBy 219 = .ok (.dup_x1, 1) := dk_90 (dk_at dksX1_noBy_9 8 rfl rfl)
theorem dX1_noBy_220 : decode cX1_noBy 220 = .ok (.iconst 1, 1) := dk_4 (dk_at dksX1_noBy_9 9 rfl rfl)
theorem dX1_noBy_221 : decode cX1_noBy 221 = .ok (.iadd, 1) := dk_96 (dk_at dksX1_noBy_9 10 rfl rfl)
theorem dX1_noBy_222 : decode cX1_noBy 222 = .ok (.putfield 278, 3) := dk_181 1 22 (dk_at dksX1_noBy_9 11 rfl rfl)
theorem dX1_noBy_225 : decode cX1_noBy 225 = .ok (.iload 4, 2) := dk_21 4 (dk_at dksX1_noBy_9 14 rfl rfl)
theorem dX1_noBy_227 : decode cX1_noBy 227 = .ok (.ineg, 1) := dk_116 (dk_at dksX1_noBy_9 16 rfl rfl)
theorem dX1_noBy_228 : decode cX1_noBy 228 = .ok (.iastore, 1) := dk_79 (dk_at dksX1_noBy_9 17 rfl rfl)
theorem dX1_noBy_229 : decode cX1_noBy 229 = .ok (.iinc 3 1, 3) := dk_132 3 1 (dk_at dksX1_noBy_9 18 rfl rfl)
theorem dX1_noBy_232 : decode cX1_noBy 232 = .ok (.goto (-84), 3) := dk_167 255 172 (dk_at dksX1_noBy_9 21 rfl rfl)
theorem dX1_noBy_235 : decode cX1_noBy 235 = .ok (.aload_n 0, 1) := dk_42 (dk_at dksX1_noBy_10 0 rfl rfl)
theorem dX1_noBy_236 : decode cX1_noBy 236 = .ok (.invokevirtual 335, 3) := dk_182 1 79 (dk_at dksX1_noBy_10 1 rfl rfl)
theorem dX1_noBy_239 : decode cX1_noBy 239 = .ok (.ireturn, 1) := dk_172 (dk_at dksX1_noBy_10 4 rfl rfl)
abbrev cX1_marks : ByteArray := prog_5_method_35_code
def yX1_marks : MethodName := ⟨RX1, "marks", "(II)V"⟩
def dkwX1_marks_3 : List UInt8 := [167, 255, 201, 177]
abbrev dktX1_marks_3 : List UInt8 := dkwX1_marks_3 ++ []
def dkwX1_marks_2 : List UInt8 := [51, 42, 180, 0, 36, 29, 46, 184, 0, 219, 28, 159, 0, 7, 4, 167, 0, 4, 3, 128, 84, 132, 3, 1]
abbrev dktX1_marks_2 : List UInt8 := dkwX1_marks_2 ++ dktX1_marks_3
def dkwX1_marks_1 : List UInt8 := [42, 180, 0, 19, 27, 46, 96, 162, 0, 44, 42, 180, 0, 94, 42, 180, 0, 36, 29, 46, 184, 0, 219, 92]
abbrev dktX1_marks_1 : List UInt8 := dkwX1_marks_1 ++ dktX1_marks_2
def dkwX1_marks_0 : List UInt8 := [42, 42, 180, 0, 106, 3, 27, 182, 0, 230, 42, 180, 0, 15, 27, 46, 62, 29, 42, 180, 0, 15, 27, 46]
abbrev dktX1_marks_0 : List UInt8 := dkwX1_marks_0 ++ dktX1_marks_1
theorem dksX1_marks_0 : cX1_marks.data.toList.drop 0 = dktX1_marks_0 := by decide +kernel
theorem dksX1_marks_1 : cX1_marks.data.toList.drop 24 = dktX1_marks_1 := dk_seg dksX1_marks_0 24 rfl rfl
theorem dksX1_marks_2 : cX1_marks.data.toList.drop 48 = dktX1_marks_2 := dk_seg dksX1_marks_1 24 rfl rfl
theorem dksX1_marks_3 : cX1_marks.data.toList.drop 72 = dktX1_marks_3 := dk_seg dksX1_marks_2 24 rfl rfl
theorem dX1_marks_0 : decode cX1_marks 0 = .ok (.aload_n 0, 1) := dk_42 (dk_at dksX1_marks_0 0 rfl rfl)
theorem dX1_marks_1 : decode cX1_marks 1 = .ok (.aload_n 0, 1) := dk_42 (dk_at dksX1_marks_0 1 rfl rfl)
theorem dX1_marks_2 : decode cX1_marks 2 = .ok (.getfield 106, 3) := dk_180 0 106 (dk_at dksX1_marks_0 2 rfl rfl)
theorem dX1_marks_5 : decode cX1_marks 5 = .ok (.iconst 0, 1) := dk_3 (dk_at dksX1_marks_0 5 rfl rfl)
theorem dX1_marks_6 : decode cX1_marks 6 = .ok (.iload_n 1, 1) := dk_27 (dk_at dksX1_marks_0 6 rfl rfl)
theorem dX1_marks_7 : decode cX1_marks 7 = .ok (.invokevirtual 230, 3) := dk_182 0 230 (dk_at dksX1_marks_0 7 rfl rfl)
theorem dX1_marks_10 : decode cX1_marks 10 = .ok (.aload_n 0, 1) := dk_42 (dk_at dksX1_marks_0 10 rfl rfl)
theorem dX1_marks_11 : decode cX1_marks 11 = .ok (.getfield 15, 3) := dk_180 0 15 (dk_at dksX1_marks_0 11 rfl rfl)
theorem dX1_marks_14 : decode cX1_marks 14 = .ok (.iload_n 1, 1) := dk_27 (dk_at dksX1_marks_0 14 rfl rfl)
theorem dX1_marks_15 : decode cX1_marks 15 = .ok (.iaload, 1) := dk_46 (dk_at dksX1_marks_0 15 rfl rfl)
theorem dX1_marks_16 : decode cX1_marks 16 = .ok (.istore_n 3, 1) := dk_62 (dk_at dksX1_marks_0 16 rfl rfl)
theorem dX1_marks_17 : decode cX1_marks 17 = .ok (.iload_n 3, 1) := dk_29 (dk_at dksX1_marks_0 17 rfl rfl)
theorem dX1_marks_18 : decode cX1_marks 18 = .ok (.aload_n 0, 1) := dk_42 (dk_at dksX1_marks_0 18 rfl rfl)
theorem dX1_marks_19 : decode cX1_marks 19 = .ok (.getfield 15, 3) := dk_180 0 15 (dk_at dksX1_marks_0 19 rfl rfl)
theorem dX1_marks_22 : decode cX1_marks 22 = .ok (.iload_n 1, 1) := dk_27 (dk_at dksX1_marks_0 22 rfl rfl)
theorem dX1_marks_23 : decode cX1_marks 23 = .ok (.iaload, 1) := dk_46 (dk_at dksX1_marks_0 23 rfl rfl)
theorem dX1_marks_24 : decode cX1_marks 24 = .ok (.aload_n 0, 1) := dk_42 (dk_at dksX1_marks_1 0 rfl rfl)
theorem dX1_marks_25 : decode cX1_marks 25 = .ok (.getfield 19, 3) := dk_180 0 19 (dk_at dksX1_marks_1 1 rfl rfl)
theorem dX1_marks_28 : decode cX1_marks 28 = .ok (.iload_n 1, 1) := dk_27 (dk_at dksX1_marks_1 4 rfl rfl)
theorem dX1_marks_29 : decode cX1_marks 29 = .ok (.iaload, 1) := dk_46 (dk_at dksX1_marks_1 5 rfl rfl)
theorem dX1_marks_30 : decode cX1_marks 30 = .ok (.iadd, 1) := dk_96 (dk_at dksX1_marks_1 6 rfl rfl)
theorem dX1_marks_31 : decode cX1_marks 31 = .ok (.if_icmp .ge 44, 3) := dk_162 0 44 (dk_at dksX1_marks_1 7 rfl rfl)
theorem dX1_marks_34 : decode cX1_marks 34 = .ok (.aload_n 0, 1) := dk_42 (dk_at dksX1_marks_1 10 rfl rfl)
theorem dX1_marks_35 : decode cX1_marks 35 = .ok (.getfield 94, 3) := dk_180 0 94 (dk_at dksX1_marks_1 11 rfl rfl)
theorem dX1_marks_38 : decode cX1_marks 38 = .ok (.aload_n 0, 1) := dk_42 (dk_at dksX1_marks_1 14 rfl rfl)
theorem dX1_marks_39 : decode cX1_marks 39 = .ok (.getfield 36, 3) := dk_180 0 36 (dk_at dksX1_marks_1 15 rfl rfl)
theorem dX1_marks_42 : decode cX1_marks 42 = .ok (.iload_n 3, 1) := dk_29 (dk_at dksX1_marks_1 18 rfl rfl)
theorem dX1_marks_43 : decode cX1_marks 43 = .ok (.iaload, 1) := dk_46 (dk_at dksX1_marks_1 19 rfl rfl)
theorem dX1_marks_44 : decode cX1_marks 44 = .ok (.invokestatic 219, 3) := dk_184 0 219 (dk_at dksX1_marks_1 20 rfl rfl)
theorem dX1_marks_47 : decode cX1_marks 47 = .ok (.dup2, 1) := dk_92 (dk_at dksX1_marks_1 23 rfl rfl)
theorem dX1_marks_48 : decode cX1_marks 48 = .ok (.baload, 1) := dk_51 (dk_at dksX1_marks_2 0 rfl rfl)
theorem dX1_marks_49 : decode cX1_marks 49 = .ok (.aload_n 0, 1) := dk_42 (dk_at dksX1_marks_2 1 rfl rfl)
theorem dX1_marks_50 : decode cX1_marks 50 = .ok (.getfield 36, 3) := dk_180 0 36 (dk_at dksX1_marks_2 2 rfl rfl)
theorem dX1_marks_53 : decode cX1_marks 53 = .ok (.iload_n 3, 1) := dk_29 (dk_at dksX1_marks_2 5 rfl rfl)
theorem dX1_marks_54 : decode cX1_marks 54 = .ok (.iaload, 1) := dk_46 (dk_at dksX1_marks_2 6 rfl rfl)
theorem dX1_marks_55 : decode cX1_marks 55 = .ok (.invokestatic 219, 3) := dk_184 0 219 (dk_at dksX1_marks_2 7 rfl rfl)
theorem dX1_marks_58 : decode cX1_marks 58 = .ok (.iload_n 2, 1) := dk_28 (dk_at dksX1_marks_2 10 rfl rfl)
theorem dX1_marks_59 : decode cX1_marks 59 = .ok (.if_icmp .eq 7, 3) := dk_159 0 7 (dk_at dksX1_marks_2 11 rfl rfl)
theorem dX1_marks_62 : decode cX1_marks 62 = .ok (.iconst 1, 1) := dk_4 (dk_at dksX1_marks_2 14 rfl rfl)
theorem dX1_marks_63 : decode cX1_marks 63 = .ok (.goto 4, 3) := dk_167 0 4 (dk_at dksX1_marks_2 15 rfl rfl)
theorem dX1_marks_66 : decode cX1_marks 66 = .ok (.iconst 0, 1) := dk_3 (dk_at dksX1_marks_2 18 rfl rfl)
theorem dX1_marks_67 : decode cX1_marks 67 = .ok (.ior, 1) := dk_128 (dk_at dksX1_marks_2 19 rfl rfl)
theorem dX1_marks_68 : decode cX1_marks 68 = .ok (.bastore, 1) := dk_84 (dk_at dksX1_marks_2 20 rfl rfl)
theorem dX1_marks_69 : decode cX1_marks 69 = .ok (.iinc 3 1, 3) := dk_132 3 1 (dk_at dksX1_marks_2 21 rfl rfl)
theorem dX1_marks_72 : decode cX1_marks 72 = .ok (.goto (-55), 3) := dk_167 255 201 (dk_at dksX1_marks_3 0 rfl rfl)
theorem dX1_marks_75 : decode cX1_marks 75 = .ok (.return_, 1) := dk_177 (dk_at dksX1_marks_3 3 rfl rfl)
abbrev cX1_heaviest : ByteArray := prog_5_method_37_code
def yX1_heaviest : MethodName := ⟨RX1, "heaviest", "()I"⟩
def dkwX1_heaviest_3 : List UInt8 := [167, 0, 5, 27, 116, 172]
abbrev dktX1_heaviest_3 : List UInt8 := dkwX1_heaviest_3 ++ []
def dkwX1_heaviest_2 : List UInt8 := [167, 255, 214, 27, 154, 0, 7, 3, 167, 0, 19, 42, 180, 0, 57, 27, 46, 4, 160, 0, 7, 27]
abbrev dktX1_heaviest_2 : List UInt8 := dkwX1_heaviest_2 ++ dktX1_heaviest_3
def dkwX1_heaviest_1 : List UInt8 := [153, 0, 19, 42, 180, 0, 60, 28, 47, 42, 180, 0, 60, 27, 47, 148, 158, 0, 5, 28, 60, 132, 2, 1]
abbrev dktX1_heaviest_1 : List UInt8 := dkwX1_heaviest_1 ++ dktX1_heaviest_2
def dkwX1_heaviest_0 : List UInt8 := [3, 60, 4, 61, 28, 42, 180, 0, 121, 163, 0, 40, 42, 180, 0, 48, 28, 46, 154, 0, 25, 27]
abbrev dktX1_heaviest_0 : List UInt8 := dkwX1_heaviest_0 ++ dktX1_heaviest_1
theorem dksX1_heaviest_0 : cX1_heaviest.data.toList.drop 0 = dktX1_heaviest_0 := by decide +kernel
theorem dksX1_heaviest_1 : cX1_heaviest.data.toList.drop 22 = dktX1_heaviest_1 := dk_seg dksX1_heaviest_0 22 rfl rfl
theorem dksX1_heaviest_2 : cX1_heaviest.data.toList.drop 46 = dktX1_heaviest_2 := dk_seg dksX1_heaviest_1 24 rfl rfl
theorem dksX1_heaviest_3 : cX1_heaviest.data.toList.drop 68 = dktX1_heaviest_3 := dk_seg dksX1_heaviest_2 22 rfl rfl
theorem dX1_heaviest_0 : decode cX1_heaviest 0 = .ok (.iconst 0, 1) := dk_3 (dk_at dksX1_heaviest_0 0 rfl rfl)
theorem dX1_heaviest_1 : decode cX1_heaviest 1 = .ok (.istore_n 1, 1) := dk_60 (dk_at dksX1_heaviest_0 1 rfl rfl)
theorem dX1_heaviest_2 : decode cX1_heaviest 2 = .ok (.iconst 1, 1) := dk_4 (dk_at dksX1_heaviest_0 2 rfl rfl)
theorem dX1_heaviest_3 : decode cX1_heaviest 3 = .ok (.istore_n 2, 1) := dk_61 (dk_at dksX1_heaviest_0 3 rfl rfl)
theorem dX1_heaviest_4 : decode cX1_heaviest 4 = .ok (.iload_n 2, 1) := dk_28 (dk_at dksX1_heaviest_0 4 rfl rfl)
theorem dX1_heaviest_5 : decode cX1_heaviest 5 = .ok (.aload_n 0, 1) := dk_42 (dk_at dksX1_heaviest_0 5 rfl rfl)
theorem dX1_heaviest_6 : decode cX1_heaviest 6 = .ok (.getfield 121, 3) := dk_180 0 121 (dk_at dksX1_heaviest_0 6 rfl rfl)
theorem dX1_heaviest_9 : decode cX1_heaviest 9 = .ok (.if_icmp .gt 40, 3) := dk_163 0 40 (dk_at dksX1_heaviest_0 9 rfl rfl)
theorem dX1_heaviest_12 : decode cX1_heaviest 12 = .ok (.aload_n 0, 1) := dk_42 (dk_at dksX1_heaviest_0 12 rfl rfl)
theorem dX1_heaviest_13 : decode cX1_heaviest 13 = .ok (.getfield 48, 3) := dk_180 0 48 (dk_at dksX1_heaviest_0 13 rfl rfl)
theorem dX1_heaviest_16 : decode cX1_heaviest 16 = .ok (.iload_n 2, 1) := dk_28 (dk_at dksX1_heaviest_0 16 rfl rfl)
theorem dX1_heaviest_17 : decode cX1_heaviest 17 = .ok (.iaload, 1) := dk_46 (dk_at dksX1_heaviest_0 17 rfl rfl)
theorem dX1_heaviest_18 : decode cX1_heaviest 18 = .ok (.ifCond .ne 25, 3) := dk_154 0 25 (dk_at dksX1_heaviest_0 18 rfl rfl)
theorem dX1_heaviest_21 : decode cX1_heaviest 21 = .ok (.iload_n 1, 1) := dk_27 (dk_at dksX1_heaviest_0 21 rfl rfl)
theorem dX1_heaviest_22 : decode cX1_heaviest 22 = .ok (.ifCond .eq 19, 3) := dk_153 0 19 (dk_at dksX1_heaviest_1 0 rfl rfl)
theorem dX1_heaviest_25 : decode cX1_heaviest 25 = .ok (.aload_n 0, 1) := dk_42 (dk_at dksX1_heaviest_1 3 rfl rfl)
theorem dX1_heaviest_26 : decode cX1_heaviest 26 = .ok (.getfield 60, 3) := dk_180 0 60 (dk_at dksX1_heaviest_1 4 rfl rfl)
theorem dX1_heaviest_29 : decode cX1_heaviest 29 = .ok (.iload_n 2, 1) := dk_28 (dk_at dksX1_heaviest_1 7 rfl rfl)
theorem dX1_heaviest_30 : decode cX1_heaviest 30 = .ok (.laload, 1) := dk_47 (dk_at dksX1_heaviest_1 8 rfl rfl)
theorem dX1_heaviest_31 : decode cX1_heaviest 31 = .ok (.aload_n 0, 1) := dk_42 (dk_at dksX1_heaviest_1 9 rfl rfl)
theorem dX1_heaviest_32 : decode cX1_heaviest 32 = .ok (.getfield 60, 3) := dk_180 0 60 (dk_at dksX1_heaviest_1 10 rfl rfl)
theorem dX1_heaviest_35 : decode cX1_heaviest 35 = .ok (.iload_n 1, 1) := dk_27 (dk_at dksX1_heaviest_1 13 rfl rfl)
theorem dX1_heaviest_36 : decode cX1_heaviest 36 = .ok (.laload, 1) := dk_47 (dk_at dksX1_heaviest_1 14 rfl rfl)
theorem dX1_heaviest_37 : decode cX1_heaviest 37 = .ok (.lcmp, 1) := dk_148 (dk_at dksX1_heaviest_1 15 rfl rfl)
theorem dX1_heaviest_38 : decode cX1_heaviest 38 = .ok (.ifCond .le 5, 3) := dk_158 0 5 (dk_at dksX1_heaviest_1 16 rfl rfl)
theorem dX1_heaviest_41 : decode cX1_heaviest 41 = .ok (.iload_n 2, 1) := dk_28 (dk_at dksX1_heaviest_1 19 rfl rfl)
theorem dX1_heaviest_42 : decode cX1_heaviest 42 = .ok (.istore_n 1, 1) := dk_60 (dk_at dksX1_heaviest_1 20 rfl rfl)
theorem dX1_heaviest_43 : decode cX1_heaviest 43 = .ok (.iinc 2 1, 3) := dk_132 2 1 (dk_at dksX1_heaviest_1 21 rfl rfl)
theorem dX1_heaviest_46 : decode cX1_heaviest 46 = .ok (.goto (-42), 3) := dk_167 255 214 (dk_at dksX1_heaviest_2 0 rfl rfl)
theorem dX1_heaviest_49 : decode cX1_heaviest 49 = .ok (.iload_n 1, 1) := dk_27 (dk_at dksX1_heaviest_2 3 rfl rfl)
theorem dX1_heaviest_50 : decode cX1_heaviest 50 = .ok (.ifCond .ne 7, 3) := dk_154 0 7 (dk_at dksX1_heaviest_2 4 rfl rfl)
theorem dX1_heaviest_53 : decode cX1_heaviest 53 = .ok (.iconst 0, 1) := dk_3 (dk_at dksX1_heaviest_2 7 rfl rfl)
theorem dX1_heaviest_54 : decode cX1_heaviest 54 = .ok (.goto 19, 3) := dk_167 0 19 (dk_at dksX1_heaviest_2 8 rfl rfl)
theorem dX1_heaviest_57 : decode cX1_heaviest 57 = .ok (.aload_n 0, 1) := dk_42 (dk_at dksX1_heaviest_2 11 rfl rfl)
theorem dX1_heaviest_58 : decode cX1_heaviest 58 = .ok (.getfield 57, 3) := dk_180 0 57 (dk_at dksX1_heaviest_2 12 rfl rfl)
theorem dX1_heaviest_61 : decode cX1_heaviest 61 = .ok (.iload_n 1, 1) := dk_27 (dk_at dksX1_heaviest_2 15 rfl rfl)
theorem dX1_heaviest_62 : decode cX1_heaviest 62 = .ok (.iaload, 1) := dk_46 (dk_at dksX1_heaviest_2 16 rfl rfl)
theorem dX1_heaviest_63 : decode cX1_heaviest 63 = .ok (.iconst 1, 1) := dk_4 (dk_at dksX1_heaviest_2 17 rfl rfl)
theorem dX1_heaviest_64 : decode cX1_heaviest 64 = .ok (.if_icmp .ne 7, 3) := dk_160 0 7 (dk_at dksX1_heaviest_2 18 rfl rfl)
theorem dX1_heaviest_67 : decode cX1_heaviest 67 = .ok (.iload_n 1, 1) := dk_27 (dk_at dksX1_heaviest_2 21 rfl rfl)
theorem dX1_heaviest_68 : decode cX1_heaviest 68 = .ok (.goto 5, 3) := dk_167 0 5 (dk_at dksX1_heaviest_3 0 rfl rfl)
theorem dX1_heaviest_71 : decode cX1_heaviest 71 = .ok (.iload_n 1, 1) := dk_27 (dk_at dksX1_heaviest_3 3 rfl rfl)
theorem dX1_heaviest_72 : decode cX1_heaviest 72 = .ok (.ineg, 1) := dk_116 (dk_at dksX1_heaviest_3 4 rfl rfl)
theorem dX1_heaviest_73 : decode cX1_heaviest 73 = .ok (.ireturn, 1) := dk_172 (dk_at dksX1_heaviest_3 5 rfl rfl)
abbrev cX1_up : ByteArray := prog_5_method_14_code
def yX1_up : MethodName := ⟨RX1, "up", "()V"⟩
def dkwX1_up_1 : List UInt8 := [42, 180, 0, 178, 42, 180, 0, 139, 184, 0, 237, 181, 0, 178, 177]
abbrev dktX1_up_1 : List UInt8 := dkwX1_up_1 ++ []
def dkwX1_up_0 : List UInt8 := [42, 89, 180, 0, 139, 4, 96, 181, 0, 139, 42, 180, 0, 69, 42, 180, 0, 139, 42, 180, 0, 136, 79, 42]
abbrev dktX1_up_0 : List UInt8 := dkwX1_up_0 ++ dktX1_up_1
theorem dksX1_up_0 : cX1_up.data.toList.drop 0 = dktX1_up_0 := by decide +kernel
theorem dksX1_up_1 : cX1_up.data.toList.drop 24 = dktX1_up_1 := dk_seg dksX1_up_0 24 rfl rfl
theorem dX1_up_0 : decode cX1_up 0 = .ok (.aload_n 0, 1) := dk_42 (dk_at dksX1_up_0 0 rfl rfl)
theorem dX1_up_1 : decode cX1_up 1 = .ok (.dup, 1) := dk_89 (dk_at dksX1_up_0 1 rfl rfl)
theorem dX1_up_2 : decode cX1_up 2 = .ok (.getfield 139, 3) := dk_180 0 139 (dk_at dksX1_up_0 2 rfl rfl)
theorem dX1_up_5 : decode cX1_up 5 = .ok (.iconst 1, 1) := dk_4 (dk_at dksX1_up_0 5 rfl rfl)
theorem dX1_up_6 : decode cX1_up 6 = .ok (.iadd, 1) := dk_96 (dk_at dksX1_up_0 6 rfl rfl)
theorem dX1_up_7 : decode cX1_up 7 = .ok (.putfield 139, 3) := dk_181 0 139 (dk_at dksX1_up_0 7 rfl rfl)
theorem dX1_up_10 : decode cX1_up 10 = .ok (.aload_n 0, 1) := dk_42 (dk_at dksX1_up_0 10 rfl rfl)
theorem dX1_up_11 : decode cX1_up 11 = .ok (.getfield 69, 3) := dk_180 0 69 (dk_at dksX1_up_0 11 rfl rfl)
theorem dX1_up_14 : decode cX1_up 14 = .ok (.aload_n 0, 1) := dk_42 (dk_at dksX1_up_0 14 rfl rfl)
theorem dX1_up_15 : decode cX1_up 15 = .ok (.getfield 139, 3) := dk_180 0 139 (dk_at dksX1_up_0 15 rfl rfl)
theorem dX1_up_18 : decode cX1_up 18 = .ok (.aload_n 0, 1) := dk_42 (dk_at dksX1_up_0 18 rfl rfl)
theorem dX1_up_19 : decode cX1_up 19 = .ok (.getfield 136, 3) := dk_180 0 136 (dk_at dksX1_up_0 19 rfl rfl)
theorem dX1_up_22 : decode cX1_up 22 = .ok (.iastore, 1) := dk_79 (dk_at dksX1_up_0 22 rfl rfl)
theorem dX1_up_23 : decode cX1_up 23 = .ok (.aload_n 0, 1) := dk_42 (dk_at dksX1_up_0 23 rfl rfl)
theorem dX1_up_24 : decode cX1_up 24 = .ok (.aload_n 0, 1) := dk_42 (dk_at dksX1_up_1 0 rfl rfl)
theorem dX1_up_25 : decode cX1_up 25 = .ok (.getfield 178, 3) := dk_180 0 178 (dk_at dksX1_up_1 1 rfl rfl)
theorem dX1_up_28 : decode cX1_up 28 = .ok (.aload_n 0, 1) := dk_42 (dk_at dksX1_up_1 4 rfl rfl)
theorem dX1_up_29 : decode cX1_up 29 = .ok (.getfield 139, 3) := dk_180 0 139 (dk_at dksX1_up_1 5 rfl rfl)
theorem dX1_up_32 : decode cX1_up 32 = .ok (.invokestatic 237, 3) := dk_184 0 237 (dk_at dksX1_up_1 8 rfl rfl)
theorem dX1_up_35 : decode cX1_up 35 = .ok (.putfield 178, 3) := dk_181 0 178 (dk_at dksX1_up_1 11 rfl rfl)
theorem dX1_up_38 : decode cX1_up 38 = .ok (.return_, 1) := dk_177 (dk_at dksX1_up_1 14 rfl rfl)
theorem q158 : (Jvm.Cond.initialized "ClauseCourt$Engine") ∈ lw_all := lw_g (lw_at lw_m1 2 rfl) rfl
theorem q202 : (Jvm.Cond.instantiable "ClauseCourt$Engine" (58 : Nat)) ∈ lw_all := lw_g (lw_at lw_m1 46 rfl) rfl
theorem q204 : (Jvm.Cond.instanceMethod ({ cls := "ClauseCourt$Engine", name := "<init>", desc := "(LClauseCourt;)V" } : Jvm.MethodName)) ∈ lw_all := lw_g (lw_at lw_m1 48 rfl) rfl
theorem q205 : (Jvm.Cond.code ({ cls := "ClauseCourt$Engine", name := "<init>", desc := "(LClauseCourt;)V" } : Jvm.MethodName) prog_5_method_1_code (2 : Nat) (Option.none : Option Jvm.ClassFile.FieldType)) ∈ lw_all := lw_g (lw_at lw_m1 49 rfl) rfl
theorem q206 : (Jvm.Cond.methodLink "ClauseCourt$Engine" (9 : Nat) ({ cls := "java/lang/Object", name := "<init>", desc := "()V" } : Jvm.MethodName)) ∈ lw_all := lw_g (lw_at lw_m1 50 rfl) rfl
theorem q207 : (Jvm.Cond.fieldLink "ClauseCourt$Engine" (15 : Nat) "ClauseCourt$Engine" "from" "[I") ∈ lw_all := lw_g (lw_at lw_m1 51 rfl) rfl
theorem q209 : (Jvm.Cond.fieldLink "ClauseCourt$Engine" (19 : Nat) "ClauseCourt$Engine" "size" "[I") ∈ lw_all := lw_g (lw_at lw_m1 53 rfl) rfl
theorem q211 : (Jvm.Cond.fieldLink "ClauseCourt$Engine" (22 : Nat) "ClauseCourt$Engine" "falses" "[I") ∈ lw_all := lw_g (lw_at lw_m1 55 rfl) rfl
theorem q212 : (Jvm.Cond.fieldLink "ClauseCourt$Engine" (25 : Nat) "ClauseCourt$Engine" "trues" "[I") ∈ lw_all := lw_g (lw_at lw_m1 56 rfl) rfl
theorem q213 : (Jvm.Cond.fieldLink "ClauseCourt$Engine" (28 : Nat) "ClauseCourt$Engine" "isThere" "[Z") ∈ lw_all := lw_g (lw_at lw_m1 57 rfl) rfl
theorem q214 : (Jvm.Cond.fieldLink "ClauseCourt$Engine" (32 : Nat) "ClauseCourt$Engine" "hot" "[J") ∈ lw_all := lw_g (lw_at lw_m1 58 rfl) rfl
theorem q215 : (Jvm.Cond.fieldLink "ClauseCourt$Engine" (36 : Nat) "ClauseCourt$Engine" "cell" "[I") ∈ lw_all := lw_g (lw_at lw_m1 59 rfl) rfl
theorem q217 : (Jvm.Cond.fieldLink "ClauseCourt$Engine" (39 : Nat) "ClauseCourt$Engine" "rowOf" "[I") ∈ lw_all := lw_g (lw_at lw_m1 61 rfl) rfl
theorem q218 : (Jvm.Cond.fieldLink "ClauseCourt$Engine" (42 : Nat) "ClauseCourt$Engine" "next" "[I") ∈ lw_all := lw_g (lw_at lw_m1 62 rfl) rfl
theorem q219 : (Jvm.Cond.fieldLink "ClauseCourt$Engine" (45 : Nat) "ClauseCourt$Engine" "head" "[I") ∈ lw_all := lw_g (lw_at lw_m1 63 rfl) rfl
theorem q220 : (Jvm.Cond.fieldLink "ClauseCourt$Engine" (124 : Nat) "ClauseCourt$Engine" "cells" "I") ∈ lw_all := lw_g (lw_at lw_m1 64 rfl) rfl
theorem q221 : (Jvm.Cond.fieldLink "ClauseCourt$Engine" (121 : Nat) "ClauseCourt$Engine" "all" "I") ∈ lw_all := lw_g (lw_at lw_m1 65 rfl) rfl
theorem q223 : (Jvm.Cond.fieldLink "ClauseCourt$Engine" (48 : Nat) "ClauseCourt$Engine" "value" "[I") ∈ lw_all := lw_g (lw_at lw_m1 67 rfl) rfl
theorem q225 : (Jvm.Cond.fieldLink "ClauseCourt$Engine" (51 : Nat) "ClauseCourt$Engine" "level" "[I") ∈ lw_all := lw_g (lw_at lw_m1 69 rfl) rfl
theorem q226 : (Jvm.Cond.fieldLink "ClauseCourt$Engine" (54 : Nat) "ClauseCourt$Engine" "reason" "[I") ∈ lw_all := lw_g (lw_at lw_m1 70 rfl) rfl
theorem q228 : (Jvm.Cond.fieldLink "ClauseCourt$Engine" (57 : Nat) "ClauseCourt$Engine" "latest" "[I") ∈ lw_all := lw_g (lw_at lw_m1 72 rfl) rfl
theorem q229 : (Jvm.Cond.fieldLink "ClauseCourt$Engine" (60 : Nat) "ClauseCourt$Engine" "weight" "[J") ∈ lw_all := lw_g (lw_at lw_m1 73 rfl) rfl
theorem q231 : (Jvm.Cond.fieldLink "ClauseCourt$Engine" (63 : Nat) "ClauseCourt$Engine" "sourceOf" "[J") ∈ lw_all := lw_g (lw_at lw_m1 75 rfl) rfl
theorem q232 : (Jvm.Cond.fieldLink "ClauseCourt$Engine" (66 : Nat) "ClauseCourt$Engine" "trail" "[I") ∈ lw_all := lw_g (lw_at lw_m1 76 rfl) rfl
theorem q234 : (Jvm.Cond.fieldLink "ClauseCourt$Engine" (69 : Nat) "ClauseCourt$Engine" "levelAt" "[I") ∈ lw_all := lw_g (lw_at lw_m1 78 rfl) rfl
theorem q236 : (Jvm.Cond.fieldLink "ClauseCourt$Engine" (136 : Nat) "ClauseCourt$Engine" "trailed" "I") ∈ lw_all := lw_g (lw_at lw_m1 80 rfl) rfl
theorem q238 : (Jvm.Cond.fieldLink "ClauseCourt$Engine" (139 : Nat) "ClauseCourt$Engine" "now" "I") ∈ lw_all := lw_g (lw_at lw_m1 82 rfl) rfl
theorem q240 : (Jvm.Cond.fieldLink "ClauseCourt$Engine" (144 : Nat) "ClauseCourt$Engine" "rise" "J") ∈ lw_all := lw_g (lw_at lw_m1 84 rfl) rfl
theorem q241 : (Jvm.Cond.fieldLink "ClauseCourt$Engine" (72 : Nat) "ClauseCourt$Engine" "source" "[J") ∈ lw_all := lw_g (lw_at lw_m1 85 rfl) rfl
theorem q242 : (Jvm.Cond.fieldLink "ClauseCourt$Engine" (75 : Nat) "ClauseCourt$Engine" "use" "[I") ∈ lw_all := lw_g (lw_at lw_m1 86 rfl) rfl
theorem q243 : (Jvm.Cond.fieldLink "ClauseCourt$Engine" (148 : Nat) "ClauseCourt$Engine" "record" "I") ∈ lw_all := lw_g (lw_at lw_m1 87 rfl) rfl
theorem q245 : (Jvm.Cond.fieldLink "ClauseCourt$Engine" (151 : Nat) "ClauseCourt$Engine" "recordItems" "I") ∈ lw_all := lw_g (lw_at lw_m1 89 rfl) rfl
theorem q246 : (Jvm.Cond.fieldLink "ClauseCourt$Engine" (78 : Nat) "ClauseCourt$Engine" "assumed" "[I") ∈ lw_all := lw_g (lw_at lw_m1 90 rfl) rfl
theorem q248 : (Jvm.Cond.fieldLink "ClauseCourt$Engine" (154 : Nat) "ClauseCourt$Engine" "many" "I") ∈ lw_all := lw_g (lw_at lw_m1 92 rfl) rfl
theorem q250 : (Jvm.Cond.fieldLink "ClauseCourt$Engine" (81 : Nat) "ClauseCourt$Engine" "said" "I") ∈ lw_all := lw_g (lw_at lw_m1 94 rfl) rfl
theorem q252 : (Jvm.Cond.fieldLink "ClauseCourt$Engine" (157 : Nat) "ClauseCourt$Engine" "steps" "I") ∈ lw_all := lw_g (lw_at lw_m1 96 rfl) rfl
theorem q254 : (Jvm.Cond.fieldLink "ClauseCourt$Engine" (260 : Nat) "ClauseCourt$Engine" "left" "I") ∈ lw_all := lw_g (lw_at lw_m1 98 rfl) rfl
theorem q256 : (Jvm.Cond.fieldLink "ClauseCourt$Engine" (160 : Nat) "ClauseCourt$Engine" "forced" "I") ∈ lw_all := lw_g (lw_at lw_m1 100 rfl) rfl
theorem q258 : (Jvm.Cond.fieldLink "ClauseCourt$Engine" (163 : Nat) "ClauseCourt$Engine" "decided" "I") ∈ lw_all := lw_g (lw_at lw_m1 102 rfl) rfl
theorem q260 : (Jvm.Cond.fieldLink "ClauseCourt$Engine" (166 : Nat) "ClauseCourt$Engine" "learnings" "I") ∈ lw_all := lw_g (lw_at lw_m1 104 rfl) rfl
theorem q262 : (Jvm.Cond.fieldLink "ClauseCourt$Engine" (169 : Nat) "ClauseCourt$Engine" "anew" "I") ∈ lw_all := lw_g (lw_at lw_m1 106 rfl) rfl
theorem q264 : (Jvm.Cond.fieldLink "ClauseCourt$Engine" (172 : Nat) "ClauseCourt$Engine" "gone" "I") ∈ lw_all := lw_g (lw_at lw_m1 108 rfl) rfl
theorem q266 : (Jvm.Cond.fieldLink "ClauseCourt$Engine" (175 : Nat) "ClauseCourt$Engine" "there" "I") ∈ lw_all := lw_g (lw_at lw_m1 110 rfl) rfl
theorem q268 : (Jvm.Cond.fieldLink "ClauseCourt$Engine" (178 : Nat) "ClauseCourt$Engine" "greatest" "I") ∈ lw_all := lw_g (lw_at lw_m1 112 rfl) rfl
theorem q270 : (Jvm.Cond.fieldLink "ClauseCourt$Engine" (181 : Nat) "ClauseCourt$Engine" "since" "I") ∈ lw_all := lw_g (lw_at lw_m1 114 rfl) rfl
theorem q271 : (Jvm.Cond.fieldLink "ClauseCourt$Engine" (184 : Nat) "ClauseCourt$Engine" "turn" "I") ∈ lw_all := lw_g (lw_at lw_m1 115 rfl) rfl
theorem q272 : (Jvm.Cond.fieldLink "ClauseCourt$Engine" (85 : Nat) "ClauseCourt$Engine" "quarrel" "[I") ∈ lw_all := lw_g (lw_at lw_m1 116 rfl) rfl
theorem q274 : (Jvm.Cond.fieldLink "ClauseCourt$Engine" (187 : Nat) "ClauseCourt$Engine" "isQuarrel" "Z") ∈ lw_all := lw_g (lw_at lw_m1 118 rfl) rfl
theorem q276 : (Jvm.Cond.fieldLink "ClauseCourt$Engine" (88 : Nat) "ClauseCourt$Engine" "core" "[J") ∈ lw_all := lw_g (lw_at lw_m1 120 rfl) rfl
theorem q278 : (Jvm.Cond.fieldLink "ClauseCourt$Engine" (91 : Nat) "ClauseCourt$Engine" "coreItem" "[I") ∈ lw_all := lw_g (lw_at lw_m1 122 rfl) rfl
theorem q280 : (Jvm.Cond.fieldLink "ClauseCourt$Engine" (191 : Nat) "ClauseCourt$Engine" "coreItems" "I") ∈ lw_all := lw_g (lw_at lw_m1 124 rfl) rfl
theorem q282 : (Jvm.Cond.fieldLink "ClauseCourt$Engine" (94 : Nat) "ClauseCourt$Engine" "isIn" "[Z") ∈ lw_all := lw_g (lw_at lw_m1 126 rfl) rfl
theorem q283 : (Jvm.Cond.fieldLink "ClauseCourt$Engine" (97 : Nat) "ClauseCourt$Engine" "wasIn" "[Z") ∈ lw_all := lw_g (lw_at lw_m1 127 rfl) rfl
theorem q284 : (Jvm.Cond.fieldLink "ClauseCourt$Engine" (100 : Nat) "ClauseCourt$Engine" "isCore" "[Z") ∈ lw_all := lw_g (lw_at lw_m1 128 rfl) rfl
theorem q285 : (Jvm.Cond.fieldLink "ClauseCourt$Engine" (103 : Nat) "ClauseCourt$Engine" "made" "[I") ∈ lw_all := lw_g (lw_at lw_m1 129 rfl) rfl
theorem q286 : (Jvm.Cond.fieldLink "ClauseCourt$Engine" (278 : Nat) "ClauseCourt$Engine" "madeItems" "I") ∈ lw_all := lw_g (lw_at lw_m1 130 rfl) rfl
theorem q287 : (Jvm.Cond.fieldLink "ClauseCourt$Engine" (106 : Nat) "ClauseCourt$Engine" "madeSource" "[J") ∈ lw_all := lw_g (lw_at lw_m1 131 rfl) rfl
theorem q288 : (Jvm.Cond.fieldLink "ClauseCourt$Engine" (275 : Nat) "ClauseCourt$Engine" "met" "I") ∈ lw_all := lw_g (lw_at lw_m1 132 rfl) rfl
theorem q289 : (Jvm.Cond.fieldLink "ClauseCourt$Engine" (109 : Nat) "ClauseCourt$Engine" "ofUse" "[I") ∈ lw_all := lw_g (lw_at lw_m1 133 rfl) rfl
theorem q290 : (Jvm.Cond.fieldLink "ClauseCourt$Engine" (272 : Nat) "ClauseCourt$Engine" "ofUses" "I") ∈ lw_all := lw_g (lw_at lw_m1 134 rfl) rfl
theorem q291 : (Jvm.Cond.fieldLink "ClauseCourt$Engine" (112 : Nat) "ClauseCourt$Engine" "order" "[I") ∈ lw_all := lw_g (lw_at lw_m1 135 rfl) rfl
theorem q292 : (Jvm.Cond.fieldLink "ClauseCourt$Engine" (115 : Nat) "ClauseCourt$Engine" "found" "[I") ∈ lw_all := lw_g (lw_at lw_m1 136 rfl) rfl
theorem q294 : (Jvm.Cond.fieldLink "ClauseCourt$Engine" (3 : Nat) "ClauseCourt$Engine" "this$0" "LClauseCourt;") ∈ lw_all := lw_g (lw_at lw_m1 138 rfl) rfl
theorem q295 : (Jvm.Cond.laysFinal "ClauseCourt$Engine" "ClauseCourt$Engine" "from" "[I") ∈ lw_all := lw_g (lw_at lw_m1 139 rfl) rfl
theorem q296 : (Jvm.Cond.soleField "ClauseCourt$Engine" "from") ∈ lw_all := lw_g (lw_at lw_m1 140 rfl) rfl
theorem q297 : (Jvm.Cond.laysFinal "ClauseCourt$Engine" "ClauseCourt$Engine" "size" "[I") ∈ lw_all := lw_g (lw_at lw_m1 141 rfl) rfl
theorem q298 : (Jvm.Cond.soleField "ClauseCourt$Engine" "size") ∈ lw_all := lw_g (lw_at lw_m1 142 rfl) rfl
theorem q299 : (Jvm.Cond.laysFinal "ClauseCourt$Engine" "ClauseCourt$Engine" "falses" "[I") ∈ lw_all := lw_g (lw_at lw_m1 143 rfl) rfl
theorem q300 : (Jvm.Cond.soleField "ClauseCourt$Engine" "falses") ∈ lw_all := lw_g (lw_at lw_m1 144 rfl) rfl
theorem q301 : (Jvm.Cond.laysFinal "ClauseCourt$Engine" "ClauseCourt$Engine" "trues" "[I") ∈ lw_all := lw_g (lw_at lw_m1 145 rfl) rfl
theorem q302 : (Jvm.Cond.soleField "ClauseCourt$Engine" "trues") ∈ lw_all := lw_g (lw_at lw_m1 146 rfl) rfl
theorem q303 : (Jvm.Cond.laysFinal "ClauseCourt$Engine" "ClauseCourt$Engine" "isThere" "[Z") ∈ lw_all := lw_g (lw_at lw_m1 147 rfl) rfl
theorem q304 : (Jvm.Cond.soleField "ClauseCourt$Engine" "isThere") ∈ lw_all := lw_g (lw_at lw_m1 148 rfl) rfl
theorem q305 : (Jvm.Cond.laysFinal "ClauseCourt$Engine" "ClauseCourt$Engine" "hot" "[J") ∈ lw_all := lw_g (lw_at lw_m1 149 rfl) rfl
theorem q306 : (Jvm.Cond.soleField "ClauseCourt$Engine" "hot") ∈ lw_all := lw_g (lw_at lw_m1 150 rfl) rfl
theorem q307 : (Jvm.Cond.laysFinal "ClauseCourt$Engine" "ClauseCourt$Engine" "cell" "[I") ∈ lw_all := lw_g (lw_at lw_m1 151 rfl) rfl
theorem q308 : (Jvm.Cond.soleField "ClauseCourt$Engine" "cell") ∈ lw_all := lw_g (lw_at lw_m1 152 rfl) rfl
theorem q309 : (Jvm.Cond.laysFinal "ClauseCourt$Engine" "ClauseCourt$Engine" "rowOf" "[I") ∈ lw_all := lw_g (lw_at lw_m1 153 rfl) rfl
theorem q310 : (Jvm.Cond.soleField "ClauseCourt$Engine" "rowOf") ∈ lw_all := lw_g (lw_at lw_m1 154 rfl) rfl
theorem q311 : (Jvm.Cond.laysFinal "ClauseCourt$Engine" "ClauseCourt$Engine" "next" "[I") ∈ lw_all := lw_g (lw_at lw_m1 155 rfl) rfl
theorem q312 : (Jvm.Cond.soleField "ClauseCourt$Engine" "next") ∈ lw_all := lw_g (lw_at lw_m1 156 rfl) rfl
theorem q313 : (Jvm.Cond.laysFinal "ClauseCourt$Engine" "ClauseCourt$Engine" "head" "[I") ∈ lw_all := lw_g (lw_at lw_m1 157 rfl) rfl
theorem q314 : (Jvm.Cond.soleField "ClauseCourt$Engine" "head") ∈ lw_all := lw_g (lw_at lw_m1 158 rfl) rfl
theorem q315 : (Jvm.Cond.lays "ClauseCourt$Engine" "ClauseCourt$Engine" "cells" "I") ∈ lw_all := lw_g (lw_at lw_m1 159 rfl) rfl
theorem q316 : (Jvm.Cond.soleField "ClauseCourt$Engine" "cells") ∈ lw_all := lw_g (lw_at lw_m1 160 rfl) rfl
theorem q317 : (Jvm.Cond.lays "ClauseCourt$Engine" "ClauseCourt$Engine" "all" "I") ∈ lw_all := lw_g (lw_at lw_m1 161 rfl) rfl
theorem q318 : (Jvm.Cond.soleField "ClauseCourt$Engine" "all") ∈ lw_all := lw_g (lw_at lw_m1 162 rfl) rfl
theorem q319 : (Jvm.Cond.laysFinal "ClauseCourt$Engine" "ClauseCourt$Engine" "value" "[I") ∈ lw_all := lw_g (lw_at lw_m1 163 rfl) rfl
theorem q320 : (Jvm.Cond.soleField "ClauseCourt$Engine" "value") ∈ lw_all := lw_g (lw_at lw_m1 164 rfl) rfl
theorem q321 : (Jvm.Cond.laysFinal "ClauseCourt$Engine" "ClauseCourt$Engine" "level" "[I") ∈ lw_all := lw_g (lw_at lw_m1 165 rfl) rfl
theorem q322 : (Jvm.Cond.soleField "ClauseCourt$Engine" "level") ∈ lw_all := lw_g (lw_at lw_m1 166 rfl) rfl
theorem q323 : (Jvm.Cond.laysFinal "ClauseCourt$Engine" "ClauseCourt$Engine" "reason" "[I") ∈ lw_all := lw_g (lw_at lw_m1 167 rfl) rfl
theorem q324 : (Jvm.Cond.soleField "ClauseCourt$Engine" "reason") ∈ lw_all := lw_g (lw_at lw_m1 168 rfl) rfl
theorem q325 : (Jvm.Cond.laysFinal "ClauseCourt$Engine" "ClauseCourt$Engine" "latest" "[I") ∈ lw_all := lw_g (lw_at lw_m1 169 rfl) rfl
theorem q326 : (Jvm.Cond.soleField "ClauseCourt$Engine" "latest") ∈ lw_all := lw_g (lw_at lw_m1 170 rfl) rfl
theorem q327 : (Jvm.Cond.laysFinal "ClauseCourt$Engine" "ClauseCourt$Engine" "weight" "[J") ∈ lw_all := lw_g (lw_at lw_m1 171 rfl) rfl
theorem q328 : (Jvm.Cond.soleField "ClauseCourt$Engine" "weight") ∈ lw_all := lw_g (lw_at lw_m1 172 rfl) rfl
theorem q329 : (Jvm.Cond.laysFinal "ClauseCourt$Engine" "ClauseCourt$Engine" "sourceOf" "[J") ∈ lw_all := lw_g (lw_at lw_m1 173 rfl) rfl
theorem q330 : (Jvm.Cond.soleField "ClauseCourt$Engine" "sourceOf") ∈ lw_all := lw_g (lw_at lw_m1 174 rfl) rfl
theorem q331 : (Jvm.Cond.laysFinal "ClauseCourt$Engine" "ClauseCourt$Engine" "trail" "[I") ∈ lw_all := lw_g (lw_at lw_m1 175 rfl) rfl
theorem q332 : (Jvm.Cond.soleField "ClauseCourt$Engine" "trail") ∈ lw_all := lw_g (lw_at lw_m1 176 rfl) rfl
theorem q333 : (Jvm.Cond.laysFinal "ClauseCourt$Engine" "ClauseCourt$Engine" "levelAt" "[I") ∈ lw_all := lw_g (lw_at lw_m1 177 rfl) rfl
theorem q334 : (Jvm.Cond.soleField "ClauseCourt$Engine" "levelAt") ∈ lw_all := lw_g (lw_at lw_m1 178 rfl) rfl
theorem q335 : (Jvm.Cond.lays "ClauseCourt$Engine" "ClauseCourt$Engine" "trailed" "I") ∈ lw_all := lw_g (lw_at lw_m1 179 rfl) rfl
theorem q336 : (Jvm.Cond.soleField "ClauseCourt$Engine" "trailed") ∈ lw_all := lw_g (lw_at lw_m1 180 rfl) rfl
theorem q337 : (Jvm.Cond.lays "ClauseCourt$Engine" "ClauseCourt$Engine" "now" "I") ∈ lw_all := lw_g (lw_at lw_m1 181 rfl) rfl
theorem q338 : (Jvm.Cond.soleField "ClauseCourt$Engine" "now") ∈ lw_all := lw_g (lw_at lw_m1 182 rfl) rfl
theorem q339 : (Jvm.Cond.lays "ClauseCourt$Engine" "ClauseCourt$Engine" "rise" "J") ∈ lw_all := lw_g (lw_at lw_m1 183 rfl) rfl
theorem q340 : (Jvm.Cond.soleField "ClauseCourt$Engine" "rise") ∈ lw_all := lw_g (lw_at lw_m1 184 rfl) rfl
theorem q341 : (Jvm.Cond.laysFinal "ClauseCourt$Engine" "ClauseCourt$Engine" "source" "[J") ∈ lw_all := lw_g (lw_at lw_m1 185 rfl) rfl
theorem q342 : (Jvm.Cond.soleField "ClauseCourt$Engine" "source") ∈ lw_all := lw_g (lw_at lw_m1 186 rfl) rfl
theorem q343 : (Jvm.Cond.laysFinal "ClauseCourt$Engine" "ClauseCourt$Engine" "use" "[I") ∈ lw_all := lw_g (lw_at lw_m1 187 rfl) rfl
theorem q344 : (Jvm.Cond.soleField "ClauseCourt$Engine" "use") ∈ lw_all := lw_g (lw_at lw_m1 188 rfl) rfl
theorem q345 : (Jvm.Cond.lays "ClauseCourt$Engine" "ClauseCourt$Engine" "record" "I") ∈ lw_all := lw_g (lw_at lw_m1 189 rfl) rfl
theorem q346 : (Jvm.Cond.soleField "ClauseCourt$Engine" "record") ∈ lw_all := lw_g (lw_at lw_m1 190 rfl) rfl
theorem q347 : (Jvm.Cond.lays "ClauseCourt$Engine" "ClauseCourt$Engine" "recordItems" "I") ∈ lw_all := lw_g (lw_at lw_m1 191 rfl) rfl
theorem q348 : (Jvm.Cond.soleField "ClauseCourt$Engine" "recordItems") ∈ lw_all := lw_g (lw_at lw_m1 192 rfl) rfl
theorem q349 : (Jvm.Cond.laysFinal "ClauseCourt$Engine" "ClauseCourt$Engine" "assumed" "[I") ∈ lw_all := lw_g (lw_at lw_m1 193 rfl) rfl
theorem q350 : (Jvm.Cond.soleField "ClauseCourt$Engine" "assumed") ∈ lw_all := lw_g (lw_at lw_m1 194 rfl) rfl
theorem q351 : (Jvm.Cond.lays "ClauseCourt$Engine" "ClauseCourt$Engine" "many" "I") ∈ lw_all := lw_g (lw_at lw_m1 195 rfl) rfl
theorem q352 : (Jvm.Cond.soleField "ClauseCourt$Engine" "many") ∈ lw_all := lw_g (lw_at lw_m1 196 rfl) rfl
theorem q353 : (Jvm.Cond.lays "ClauseCourt$Engine" "ClauseCourt$Engine" "said" "I") ∈ lw_all := lw_g (lw_at lw_m1 197 rfl) rfl
theorem q354 : (Jvm.Cond.soleField "ClauseCourt$Engine" "said") ∈ lw_all := lw_g (lw_at lw_m1 198 rfl) rfl
theorem q355 : (Jvm.Cond.lays "ClauseCourt$Engine" "ClauseCourt$Engine" "steps" "I") ∈ lw_all := lw_g (lw_at lw_m1 199 rfl) rfl
theorem q356 : (Jvm.Cond.soleField "ClauseCourt$Engine" "steps") ∈ lw_all := lw_g (lw_at lw_m1 200 rfl) rfl
theorem q357 : (Jvm.Cond.lays "ClauseCourt$Engine" "ClauseCourt$Engine" "left" "I") ∈ lw_all := lw_g (lw_at lw_m1 201 rfl) rfl
theorem q358 : (Jvm.Cond.soleField "ClauseCourt$Engine" "left") ∈ lw_all := lw_g (lw_at lw_m1 202 rfl) rfl
theorem q359 : (Jvm.Cond.lays "ClauseCourt$Engine" "ClauseCourt$Engine" "forced" "I") ∈ lw_all := lw_g (lw_at lw_m1 203 rfl) rfl
theorem q360 : (Jvm.Cond.soleField "ClauseCourt$Engine" "forced") ∈ lw_all := lw_g (lw_at lw_m1 204 rfl) rfl
theorem q361 : (Jvm.Cond.lays "ClauseCourt$Engine" "ClauseCourt$Engine" "decided" "I") ∈ lw_all := lw_g (lw_at lw_m1 205 rfl) rfl
theorem q362 : (Jvm.Cond.soleField "ClauseCourt$Engine" "decided") ∈ lw_all := lw_g (lw_at lw_m1 206 rfl) rfl
theorem q363 : (Jvm.Cond.lays "ClauseCourt$Engine" "ClauseCourt$Engine" "learnings" "I") ∈ lw_all := lw_g (lw_at lw_m1 207 rfl) rfl
theorem q364 : (Jvm.Cond.soleField "ClauseCourt$Engine" "learnings") ∈ lw_all := lw_g (lw_at lw_m1 208 rfl) rfl
theorem q365 : (Jvm.Cond.lays "ClauseCourt$Engine" "ClauseCourt$Engine" "anew" "I") ∈ lw_all := lw_g (lw_at lw_m1 209 rfl) rfl
theorem q366 : (Jvm.Cond.soleField "ClauseCourt$Engine" "anew") ∈ lw_all := lw_g (lw_at lw_m1 210 rfl) rfl
theorem q367 : (Jvm.Cond.lays "ClauseCourt$Engine" "ClauseCourt$Engine" "gone" "I") ∈ lw_all := lw_g (lw_at lw_m1 211 rfl) rfl
theorem q368 : (Jvm.Cond.soleField "ClauseCourt$Engine" "gone") ∈ lw_all := lw_g (lw_at lw_m1 212 rfl) rfl
theorem q369 : (Jvm.Cond.lays "ClauseCourt$Engine" "ClauseCourt$Engine" "there" "I") ∈ lw_all := lw_g (lw_at lw_m1 213 rfl) rfl
theorem q370 : (Jvm.Cond.soleField "ClauseCourt$Engine" "there") ∈ lw_all := lw_g (lw_at lw_m1 214 rfl) rfl
theorem q371 : (Jvm.Cond.lays "ClauseCourt$Engine" "ClauseCourt$Engine" "greatest" "I") ∈ lw_all := lw_g (lw_at lw_m1 215 rfl) rfl
theorem q372 : (Jvm.Cond.soleField "ClauseCourt$Engine" "greatest") ∈ lw_all := lw_g (lw_at lw_m1 216 rfl) rfl
theorem q373 : (Jvm.Cond.lays "ClauseCourt$Engine" "ClauseCourt$Engine" "since" "I") ∈ lw_all := lw_g (lw_at lw_m1 217 rfl) rfl
theorem q374 : (Jvm.Cond.soleField "ClauseCourt$Engine" "since") ∈ lw_all := lw_g (lw_at lw_m1 218 rfl) rfl
theorem q375 : (Jvm.Cond.lays "ClauseCourt$Engine" "ClauseCourt$Engine" "turn" "I") ∈ lw_all := lw_g (lw_at lw_m1 219 rfl) rfl
theorem q376 : (Jvm.Cond.soleField "ClauseCourt$Engine" "turn") ∈ lw_all := lw_g (lw_at lw_m1 220 rfl) rfl
theorem q377 : (Jvm.Cond.laysFinal "ClauseCourt$Engine" "ClauseCourt$Engine" "quarrel" "[I") ∈ lw_all := lw_g (lw_at lw_m1 221 rfl) rfl
theorem q378 : (Jvm.Cond.soleField "ClauseCourt$Engine" "quarrel") ∈ lw_all := lw_g (lw_at lw_m1 222 rfl) rfl
theorem q379 : (Jvm.Cond.lays "ClauseCourt$Engine" "ClauseCourt$Engine" "isQuarrel" "Z") ∈ lw_all := lw_g (lw_at lw_m1 223 rfl) rfl
theorem q380 : (Jvm.Cond.soleField "ClauseCourt$Engine" "isQuarrel") ∈ lw_all := lw_g (lw_at lw_m1 224 rfl) rfl
theorem q381 : (Jvm.Cond.laysFinal "ClauseCourt$Engine" "ClauseCourt$Engine" "core" "[J") ∈ lw_all := lw_g (lw_at lw_m1 225 rfl) rfl
theorem q382 : (Jvm.Cond.soleField "ClauseCourt$Engine" "core") ∈ lw_all := lw_g (lw_at lw_m1 226 rfl) rfl
theorem q383 : (Jvm.Cond.laysFinal "ClauseCourt$Engine" "ClauseCourt$Engine" "coreItem" "[I") ∈ lw_all := lw_g (lw_at lw_m1 227 rfl) rfl
theorem q384 : (Jvm.Cond.soleField "ClauseCourt$Engine" "coreItem") ∈ lw_all := lw_g (lw_at lw_m1 228 rfl) rfl
theorem q385 : (Jvm.Cond.lays "ClauseCourt$Engine" "ClauseCourt$Engine" "coreItems" "I") ∈ lw_all := lw_g (lw_at lw_m1 229 rfl) rfl
theorem q386 : (Jvm.Cond.soleField "ClauseCourt$Engine" "coreItems") ∈ lw_all := lw_g (lw_at lw_m1 230 rfl) rfl
theorem q387 : (Jvm.Cond.laysFinal "ClauseCourt$Engine" "ClauseCourt$Engine" "isIn" "[Z") ∈ lw_all := lw_g (lw_at lw_m1 231 rfl) rfl
theorem q388 : (Jvm.Cond.soleField "ClauseCourt$Engine" "isIn") ∈ lw_all := lw_g (lw_at lw_m1 232 rfl) rfl
theorem q389 : (Jvm.Cond.laysFinal "ClauseCourt$Engine" "ClauseCourt$Engine" "wasIn" "[Z") ∈ lw_all := lw_g (lw_at lw_m1 233 rfl) rfl
theorem q390 : (Jvm.Cond.soleField "ClauseCourt$Engine" "wasIn") ∈ lw_all := lw_g (lw_at lw_m1 234 rfl) rfl
theorem q391 : (Jvm.Cond.laysFinal "ClauseCourt$Engine" "ClauseCourt$Engine" "isCore" "[Z") ∈ lw_all := lw_g (lw_at lw_m1 235 rfl) rfl
theorem q392 : (Jvm.Cond.soleField "ClauseCourt$Engine" "isCore") ∈ lw_all := lw_g (lw_at lw_m1 236 rfl) rfl
theorem q393 : (Jvm.Cond.laysFinal "ClauseCourt$Engine" "ClauseCourt$Engine" "made" "[I") ∈ lw_all := lw_g (lw_at lw_m1 237 rfl) rfl
theorem q394 : (Jvm.Cond.soleField "ClauseCourt$Engine" "made") ∈ lw_all := lw_g (lw_at lw_m1 238 rfl) rfl
theorem q395 : (Jvm.Cond.lays "ClauseCourt$Engine" "ClauseCourt$Engine" "madeItems" "I") ∈ lw_all := lw_g (lw_at lw_m1 239 rfl) rfl
theorem q396 : (Jvm.Cond.soleField "ClauseCourt$Engine" "madeItems") ∈ lw_all := lw_g (lw_at lw_m2 0 rfl) rfl
theorem q397 : (Jvm.Cond.laysFinal "ClauseCourt$Engine" "ClauseCourt$Engine" "madeSource" "[J") ∈ lw_all := lw_g (lw_at lw_m2 1 rfl) rfl
theorem q398 : (Jvm.Cond.soleField "ClauseCourt$Engine" "madeSource") ∈ lw_all := lw_g (lw_at lw_m2 2 rfl) rfl
theorem q399 : (Jvm.Cond.lays "ClauseCourt$Engine" "ClauseCourt$Engine" "met" "I") ∈ lw_all := lw_g (lw_at lw_m2 3 rfl) rfl
theorem q400 : (Jvm.Cond.soleField "ClauseCourt$Engine" "met") ∈ lw_all := lw_g (lw_at lw_m2 4 rfl) rfl
theorem q401 : (Jvm.Cond.laysFinal "ClauseCourt$Engine" "ClauseCourt$Engine" "ofUse" "[I") ∈ lw_all := lw_g (lw_at lw_m2 5 rfl) rfl
theorem q402 : (Jvm.Cond.soleField "ClauseCourt$Engine" "ofUse") ∈ lw_all := lw_g (lw_at lw_m2 6 rfl) rfl
theorem q403 : (Jvm.Cond.lays "ClauseCourt$Engine" "ClauseCourt$Engine" "ofUses" "I") ∈ lw_all := lw_g (lw_at lw_m2 7 rfl) rfl
theorem q404 : (Jvm.Cond.soleField "ClauseCourt$Engine" "ofUses") ∈ lw_all := lw_g (lw_at lw_m2 8 rfl) rfl
theorem q405 : (Jvm.Cond.laysFinal "ClauseCourt$Engine" "ClauseCourt$Engine" "order" "[I") ∈ lw_all := lw_g (lw_at lw_m2 9 rfl) rfl
theorem q406 : (Jvm.Cond.soleField "ClauseCourt$Engine" "order") ∈ lw_all := lw_g (lw_at lw_m2 10 rfl) rfl
theorem q407 : (Jvm.Cond.laysFinal "ClauseCourt$Engine" "ClauseCourt$Engine" "found" "[I") ∈ lw_all := lw_g (lw_at lw_m2 11 rfl) rfl
theorem q408 : (Jvm.Cond.soleField "ClauseCourt$Engine" "found") ∈ lw_all := lw_g (lw_at lw_m2 12 rfl) rfl
theorem q409 : (Jvm.Cond.laysFinal "ClauseCourt$Engine" "ClauseCourt$Engine" "this$0" "LClauseCourt;") ∈ lw_all := lw_g (lw_at lw_m2 13 rfl) rfl
theorem q410 : (Jvm.Cond.soleField "ClauseCourt$Engine" "this$0") ∈ lw_all := lw_g (lw_at lw_m2 14 rfl) rfl
theorem q411 : (Jvm.Cond.superclass "ClauseCourt$Engine" "java/lang/Object") ∈ lw_all := lw_g (lw_at lw_m2 15 rfl) rfl
theorem q438 : (Jvm.Cond.fieldLinkNest "ClauseCourt$Engine" (127 : Nat) "ClauseCourt" "name" "[LClauseCourt$Name;" "ClauseCourt") ∈ lw_tbl := lw_at lw_m2 42 rfl
theorem q439 : (Jvm.Cond.fieldLinkNest "ClauseCourt$Engine" (118 : Nat) "ClauseCourt" "names" "I" "ClauseCourt") ∈ lw_tbl := lw_at lw_m2 43 rfl
theorem q455 : (Jvm.Cond.fieldLinkNest "ClauseCourt$Engine" (209 : Nat) "ClauseCourt" "caseItem" "[I" "ClauseCourt") ∈ lw_tbl := lw_at lw_m2 59 rfl
theorem q457 : (Jvm.Cond.fieldLinkNest "ClauseCourt$Engine" (212 : Nat) "ClauseCourt" "caseFrom" "[I" "ClauseCourt") ∈ lw_tbl := lw_at lw_m2 61 rfl
theorem q458 : (Jvm.Cond.fieldLinkNest "ClauseCourt$Engine" (206 : Nat) "ClauseCourt" "caseRows" "I" "ClauseCourt") ∈ lw_tbl := lw_at lw_m2 62 rfl
theorem q467 : (Jvm.Cond.fieldLinkNest "ClauseCourt$Engine" (315 : Nat) "ClauseCourt" "unit" "I" "ClauseCourt") ∈ lw_tbl := lw_at lw_m2 71 rfl
theorem q469 : (Jvm.Cond.fieldLinkNest "ClauseCourt$Engine" (297 : Nat) "ClauseCourt" "mostLearnt" "I" "ClauseCourt") ∈ lw_tbl := lw_at lw_m2 73 rfl
theorem q593 : (Jvm.Cond.fieldLinkNest "ClauseCourt$Engine" (131 : Nat) "ClauseCourt$Name" "told" "I" "ClauseCourt") ∈ lw_tbl := lw_at lw_m2 197 rfl
theorem q1526 : (Jvm.Cond.instanceMethod ({ cls := "ClauseCourt$Engine", name := "clear", desc := "()V" } : Jvm.MethodName)) ∈ lw_all := lw_g (lw_at lw_m6 170 rfl) rfl
theorem q1527 : (Jvm.Cond.selects "ClauseCourt$Engine" ({ cls := "ClauseCourt$Engine", name := "clear", desc := "()V" } : Jvm.MethodName) ({ cls := "ClauseCourt$Engine", name := "clear", desc := "()V" } : Jvm.MethodName)) ∈ lw_all := lw_g (lw_at lw_m6 171 rfl) rfl
theorem q1528 : (Jvm.Cond.code ({ cls := "ClauseCourt$Engine", name := "clear", desc := "()V" } : Jvm.MethodName) prog_5_method_3_code (2 : Nat) (Option.none : Option Jvm.ClassFile.FieldType)) ∈ lw_all := lw_g (lw_at lw_m6 172 rfl) rfl
theorem q1529 : (Jvm.Cond.constantLong "ClauseCourt$Engine" (142 : Nat) (64 : Int64)) ∈ lw_all := lw_g (lw_at lw_m6 173 rfl) rfl
theorem q1531 : (Jvm.Cond.instanceMethod ({ cls := "ClauseCourt$Engine", name := "layCase", desc := "([Z)V" } : Jvm.MethodName)) ∈ lw_all := lw_g (lw_at lw_m6 175 rfl) rfl
theorem q1532 : (Jvm.Cond.selects "ClauseCourt$Engine" ({ cls := "ClauseCourt$Engine", name := "layCase", desc := "([Z)V" } : Jvm.MethodName) ({ cls := "ClauseCourt$Engine", name := "layCase", desc := "([Z)V" } : Jvm.MethodName)) ∈ lw_all := lw_g (lw_at lw_m6 176 rfl) rfl
theorem q1533 : (Jvm.Cond.code ({ cls := "ClauseCourt$Engine", name := "layCase", desc := "([Z)V" } : Jvm.MethodName) prog_5_method_5_code (3 : Nat) (Option.none : Option Jvm.ClassFile.FieldType)) ∈ lw_all := lw_g (lw_at lw_m6 177 rfl) rfl
theorem q1534 : (Jvm.Cond.methodLink "ClauseCourt$Engine" (215 : Nat) ({ cls := "ClauseCourt$Engine", name := "lay", desc := "(I[III)V" } : Jvm.MethodName)) ∈ lw_all := lw_g (lw_at lw_m6 178 rfl) rfl
theorem q1535 : (Jvm.Cond.instanceMethod ({ cls := "ClauseCourt$Engine", name := "lay", desc := "(I[III)V" } : Jvm.MethodName)) ∈ lw_all := lw_g (lw_at lw_m6 179 rfl) rfl
theorem q1536 : (Jvm.Cond.selects "ClauseCourt$Engine" ({ cls := "ClauseCourt$Engine", name := "lay", desc := "(I[III)V" } : Jvm.MethodName) ({ cls := "ClauseCourt$Engine", name := "lay", desc := "(I[III)V" } : Jvm.MethodName)) ∈ lw_all := lw_g (lw_at lw_m6 180 rfl) rfl
theorem q1537 : (Jvm.Cond.code ({ cls := "ClauseCourt$Engine", name := "lay", desc := "(I[III)V" } : Jvm.MethodName) prog_5_method_4_code (7 : Nat) (Option.none : Option Jvm.ClassFile.FieldType)) ∈ lw_all := lw_g (lw_at lw_m6 181 rfl) rfl
theorem q1538 : (Jvm.Cond.methodLink "ClauseCourt$Engine" (194 : Nat) ({ cls := "ClauseCourt$Engine", name := "index", desc := "(I)I" } : Jvm.MethodName)) ∈ lw_all := lw_g (lw_at lw_m6 182 rfl) rfl
theorem q1539 : (Jvm.Cond.privateMethod ({ cls := "ClauseCourt$Engine", name := "index", desc := "(I)I" } : Jvm.MethodName)) ∈ lw_tbl := lw_at lw_m6 183 rfl
theorem q1540 : (Jvm.Cond.instanceMethod ({ cls := "ClauseCourt$Engine", name := "index", desc := "(I)I" } : Jvm.MethodName)) ∈ lw_all := lw_g (lw_at lw_m6 184 rfl) rfl
theorem q1541 : (Jvm.Cond.code ({ cls := "ClauseCourt$Engine", name := "index", desc := "(I)I" } : Jvm.MethodName) prog_5_method_2_code (2 : Nat) (Option.some Jvm.ClassFile.FieldType.int)) ∈ lw_all := lw_g (lw_at lw_m6 185 rfl) rfl
theorem q1542 : (Jvm.Cond.methodLink "ClauseCourt$Engine" (198 : Nat) ({ cls := "ClauseCourt$Engine", name := "isTrue", desc := "(I)Z" } : Jvm.MethodName)) ∈ lw_all := lw_g (lw_at lw_m6 186 rfl) rfl
theorem q1543 : (Jvm.Cond.privateMethod ({ cls := "ClauseCourt$Engine", name := "isTrue", desc := "(I)Z" } : Jvm.MethodName)) ∈ lw_tbl := lw_at lw_m6 187 rfl
theorem q1544 : (Jvm.Cond.instanceMethod ({ cls := "ClauseCourt$Engine", name := "isTrue", desc := "(I)Z" } : Jvm.MethodName)) ∈ lw_all := lw_g (lw_at lw_m6 188 rfl) rfl
theorem q1545 : (Jvm.Cond.code ({ cls := "ClauseCourt$Engine", name := "isTrue", desc := "(I)Z" } : Jvm.MethodName) prog_5_method_6_code (2 : Nat) (Option.some Jvm.ClassFile.FieldType.boolean)) ∈ lw_all := lw_g (lw_at lw_m6 189 rfl) rfl
theorem q1546 : (Jvm.Cond.methodLink "ClauseCourt$Engine" (219 : Nat) ({ cls := "java/lang/Math", name := "abs", desc := "(I)I" } : Jvm.MethodName)) ∈ lw_all := lw_g (lw_at lw_m6 190 rfl) rfl
theorem q1547 : (Jvm.Cond.methodLink "ClauseCourt$Engine" (202 : Nat) ({ cls := "ClauseCourt$Engine", name := "look", desc := "(I)V" } : Jvm.MethodName)) ∈ lw_all := lw_g (lw_at lw_m6 191 rfl) rfl
theorem q1548 : (Jvm.Cond.privateMethod ({ cls := "ClauseCourt$Engine", name := "look", desc := "(I)V" } : Jvm.MethodName)) ∈ lw_tbl := lw_at lw_m6 192 rfl
theorem q1549 : (Jvm.Cond.instanceMethod ({ cls := "ClauseCourt$Engine", name := "look", desc := "(I)V" } : Jvm.MethodName)) ∈ lw_all := lw_g (lw_at lw_m6 193 rfl) rfl
theorem q1550 : (Jvm.Cond.code ({ cls := "ClauseCourt$Engine", name := "look", desc := "(I)V" } : Jvm.MethodName) prog_5_method_8_code (5 : Nat) (Option.none : Option Jvm.ClassFile.FieldType)) ∈ lw_all := lw_g (lw_at lw_m6 194 rfl) rfl
theorem q1551 : (Jvm.Cond.constantLong "ClauseCourt$Engine" (224 : Nat) (-1 : Int64)) ∈ lw_all := lw_g (lw_at lw_m6 195 rfl) rfl
theorem q1557 : (Jvm.Cond.instanceMethod ({ cls := "ClauseCourt$Engine", name := "search", desc := "(I)I" } : Jvm.MethodName)) ∈ lw_all := lw_g (lw_at lw_m6 201 rfl) rfl
theorem q1558 : (Jvm.Cond.selects "ClauseCourt$Engine" ({ cls := "ClauseCourt$Engine", name := "search", desc := "(I)I" } : Jvm.MethodName) ({ cls := "ClauseCourt$Engine", name := "search", desc := "(I)I" } : Jvm.MethodName)) ∈ lw_all := lw_g (lw_at lw_m6 202 rfl) rfl
theorem q1559 : (Jvm.Cond.codeWith ({ cls := "ClauseCourt$Engine", name := "search", desc := "(I)I" } : Jvm.MethodName) prog_5_method_38_code (8 : Nat) (Option.some Jvm.ClassFile.FieldType.int) [((9 : Nat), (45 : Nat), (390 : Nat), (0 : Nat)), ((79 : Nat), (102 : Nat), (390 : Nat), (0 : Nat)), ((136 : Nat), (158 : Nat), (390 : Nat), (0 : Nat)), ((192 : Nat), (222 : Nat), (390 : Nat), (0 : Nat)), ((256 : Nat), (282 : Nat), (390 : Nat), (0 : Nat)), ((316 : Nat), (326 : Nat), (390 : Nat), (0 : Nat)), ((360 : Nat), (392 : Nat), (390 : Nat), (0 : Nat))]) ∈ lw_all := lw_g (lw_at lw_m6 203 rfl) rfl
theorem q1560 : (Jvm.Cond.methodLink "ClauseCourt$Engine" (341 : Nat) ({ cls := "ClauseCourt$Engine", name := "force", desc := "()I" } : Jvm.MethodName)) ∈ lw_all := lw_g (lw_at lw_m6 204 rfl) rfl
theorem q1561 : (Jvm.Cond.instanceMethod ({ cls := "ClauseCourt$Engine", name := "force", desc := "()I" } : Jvm.MethodName)) ∈ lw_all := lw_g (lw_at lw_m6 205 rfl) rfl
theorem q1562 : (Jvm.Cond.selects "ClauseCourt$Engine" ({ cls := "ClauseCourt$Engine", name := "force", desc := "()I" } : Jvm.MethodName) ({ cls := "ClauseCourt$Engine", name := "force", desc := "()I" } : Jvm.MethodName)) ∈ lw_all := lw_g (lw_at lw_m6 206 rfl) rfl
theorem q1563 : (Jvm.Cond.code ({ cls := "ClauseCourt$Engine", name := "force", desc := "()I" } : Jvm.MethodName) prog_5_method_19_code (3 : Nat) (Option.some Jvm.ClassFile.FieldType.int)) ∈ lw_all := lw_g (lw_at lw_m6 207 rfl) rfl
theorem q1564 : (Jvm.Cond.methodLink "ClauseCourt$Engine" (253 : Nat) ({ cls := "ClauseCourt$Engine", name := "firstQuarrel", desc := "()I" } : Jvm.MethodName)) ∈ lw_all := lw_g (lw_at lw_m6 208 rfl) rfl
theorem q1565 : (Jvm.Cond.privateMethod ({ cls := "ClauseCourt$Engine", name := "firstQuarrel", desc := "()I" } : Jvm.MethodName)) ∈ lw_tbl := lw_at lw_m6 209 rfl
theorem q1566 : (Jvm.Cond.instanceMethod ({ cls := "ClauseCourt$Engine", name := "firstQuarrel", desc := "()I" } : Jvm.MethodName)) ∈ lw_all := lw_g (lw_at lw_m6 210 rfl) rfl
theorem q1567 : (Jvm.Cond.code ({ cls := "ClauseCourt$Engine", name := "firstQuarrel", desc := "()I" } : Jvm.MethodName) prog_5_method_16_code (5 : Nat) (Option.some Jvm.ClassFile.FieldType.int)) ∈ lw_all := lw_g (lw_at lw_m6 211 rfl) rfl
theorem q1568 : (Jvm.Cond.methodLink "ClauseCourt$Engine" (244 : Nat) ({ cls := "java/lang/Long", name := "numberOfTrailingZeros", desc := "(J)I" } : Jvm.MethodName)) ∈ lw_all := lw_g (lw_at lw_m6 212 rfl) rfl
theorem q1575 : (Jvm.Cond.methodLink "ClauseCourt$Engine" (257 : Nat) ({ cls := "ClauseCourt$Engine", name := "firstForcing", desc := "()I" } : Jvm.MethodName)) ∈ lw_all := lw_g (lw_at lw_m6 219 rfl) rfl
theorem q1576 : (Jvm.Cond.privateMethod ({ cls := "ClauseCourt$Engine", name := "firstForcing", desc := "()I" } : Jvm.MethodName)) ∈ lw_tbl := lw_at lw_m6 220 rfl
theorem q1577 : (Jvm.Cond.instanceMethod ({ cls := "ClauseCourt$Engine", name := "firstForcing", desc := "()I" } : Jvm.MethodName)) ∈ lw_all := lw_g (lw_at lw_m6 221 rfl) rfl
theorem q1578 : (Jvm.Cond.code ({ cls := "ClauseCourt$Engine", name := "firstForcing", desc := "()I" } : Jvm.MethodName) prog_5_method_17_code (2 : Nat) (Option.some Jvm.ClassFile.FieldType.int)) ∈ lw_all := lw_g (lw_at lw_m6 222 rfl) rfl
theorem q1579 : (Jvm.Cond.methodLink "ClauseCourt$Engine" (263 : Nat) ({ cls := "ClauseCourt$Engine", name := "step", desc := "()V" } : Jvm.MethodName)) ∈ lw_all := lw_g (lw_at lw_m6 223 rfl) rfl
theorem q1580 : (Jvm.Cond.privateMethod ({ cls := "ClauseCourt$Engine", name := "step", desc := "()V" } : Jvm.MethodName)) ∈ lw_tbl := lw_at lw_m6 224 rfl
theorem q1581 : (Jvm.Cond.instanceMethod ({ cls := "ClauseCourt$Engine", name := "step", desc := "()V" } : Jvm.MethodName)) ∈ lw_all := lw_g (lw_at lw_m6 225 rfl) rfl
theorem q1582 : (Jvm.Cond.code ({ cls := "ClauseCourt$Engine", name := "step", desc := "()V" } : Jvm.MethodName) prog_5_method_20_code (1 : Nat) (Option.none : Option Jvm.ClassFile.FieldType)) ∈ lw_all := lw_g (lw_at lw_m6 226 rfl) rfl
theorem q1583 : (Jvm.Cond.methodLink "ClauseCourt$Engine" (266 : Nat) ({ cls := "ClauseCourt$Engine", name := "openOf", desc := "(I)I" } : Jvm.MethodName)) ∈ lw_all := lw_g (lw_at lw_m6 227 rfl) rfl
theorem q1584 : (Jvm.Cond.privateMethod ({ cls := "ClauseCourt$Engine", name := "openOf", desc := "(I)I" } : Jvm.MethodName)) ∈ lw_tbl := lw_at lw_m6 228 rfl
theorem q1585 : (Jvm.Cond.instanceMethod ({ cls := "ClauseCourt$Engine", name := "openOf", desc := "(I)I" } : Jvm.MethodName)) ∈ lw_all := lw_g (lw_at lw_m6 229 rfl) rfl
theorem q1586 : (Jvm.Cond.code ({ cls := "ClauseCourt$Engine", name := "openOf", desc := "(I)I" } : Jvm.MethodName) prog_5_method_18_code (3 : Nat) (Option.some Jvm.ClassFile.FieldType.int)) ∈ lw_all := lw_g (lw_at lw_m6 230 rfl) rfl
theorem q1587 : (Jvm.Cond.methodLink "ClauseCourt$Engine" (250 : Nat) ({ cls := "ClauseCourt$Engine", name := "isOpen", desc := "(I)Z" } : Jvm.MethodName)) ∈ lw_all := lw_g (lw_at lw_m6 231 rfl) rfl
theorem q1588 : (Jvm.Cond.privateMethod ({ cls := "ClauseCourt$Engine", name := "isOpen", desc := "(I)Z" } : Jvm.MethodName)) ∈ lw_tbl := lw_at lw_m6 232 rfl
theorem q1589 : (Jvm.Cond.instanceMethod ({ cls := "ClauseCourt$Engine", name := "isOpen", desc := "(I)Z" } : Jvm.MethodName)) ∈ lw_all := lw_g (lw_at lw_m6 233 rfl) rfl
theorem q1590 : (Jvm.Cond.code ({ cls := "ClauseCourt$Engine", name := "isOpen", desc := "(I)Z" } : Jvm.MethodName) prog_5_method_7_code (2 : Nat) (Option.some Jvm.ClassFile.FieldType.boolean)) ∈ lw_all := lw_g (lw_at lw_m6 234 rfl) rfl
theorem q1591 : (Jvm.Cond.methodLink "ClauseCourt$Engine" (269 : Nat) ({ cls := "ClauseCourt$Engine", name := "set", desc := "(II)V" } : Jvm.MethodName)) ∈ lw_all := lw_g (lw_at lw_m6 235 rfl) rfl
theorem q1592 : (Jvm.Cond.privateMethod ({ cls := "ClauseCourt$Engine", name := "set", desc := "(II)V" } : Jvm.MethodName)) ∈ lw_tbl := lw_at lw_m6 236 rfl
theorem q1593 : (Jvm.Cond.instanceMethod ({ cls := "ClauseCourt$Engine", name := "set", desc := "(II)V" } : Jvm.MethodName)) ∈ lw_all := lw_g (lw_at lw_m6 237 rfl) rfl
theorem q1594 : (Jvm.Cond.code ({ cls := "ClauseCourt$Engine", name := "set", desc := "(II)V" } : Jvm.MethodName) prog_5_method_10_code (5 : Nat) (Option.none : Option Jvm.ClassFile.FieldType)) ∈ lw_all := lw_g (lw_at lw_m6 238 rfl) rfl
theorem q1595 : (Jvm.Cond.methodLink "ClauseCourt$Engine" (226 : Nat) ({ cls := "ClauseCourt$Engine", name := "rootSource", desc := "(II)V" } : Jvm.MethodName)) ∈ lw_all := lw_g (lw_at lw_m6 239 rfl) rfl
theorem q1596 : (Jvm.Cond.privateMethod ({ cls := "ClauseCourt$Engine", name := "rootSource", desc := "(II)V" } : Jvm.MethodName)) ∈ lw_tbl := lw_at lw_m7 0 rfl
theorem q1597 : (Jvm.Cond.instanceMethod ({ cls := "ClauseCourt$Engine", name := "rootSource", desc := "(II)V" } : Jvm.MethodName)) ∈ lw_all := lw_g (lw_at lw_m7 1 rfl) rfl
theorem q1598 : (Jvm.Cond.code ({ cls := "ClauseCourt$Engine", name := "rootSource", desc := "(II)V" } : Jvm.MethodName) prog_5_method_11_code (5 : Nat) (Option.none : Option Jvm.ClassFile.FieldType)) ∈ lw_all := lw_g (lw_at lw_m7 2 rfl) rfl
theorem q1599 : (Jvm.Cond.methodLink "ClauseCourt$Engine" (230 : Nat) ({ cls := "ClauseCourt$Engine", name := "addSource", desc := "([JII)V" } : Jvm.MethodName)) ∈ lw_all := lw_g (lw_at lw_m7 3 rfl) rfl
theorem q1600 : (Jvm.Cond.privateMethod ({ cls := "ClauseCourt$Engine", name := "addSource", desc := "([JII)V" } : Jvm.MethodName)) ∈ lw_tbl := lw_at lw_m7 4 rfl
theorem q1601 : (Jvm.Cond.instanceMethod ({ cls := "ClauseCourt$Engine", name := "addSource", desc := "([JII)V" } : Jvm.MethodName)) ∈ lw_all := lw_g (lw_at lw_m7 5 rfl) rfl
theorem q1602 : (Jvm.Cond.code ({ cls := "ClauseCourt$Engine", name := "addSource", desc := "([JII)V" } : Jvm.MethodName) prog_5_method_13_code (5 : Nat) (Option.none : Option Jvm.ClassFile.FieldType)) ∈ lw_all := lw_g (lw_at lw_m7 6 rfl) rfl
theorem q1603 : (Jvm.Cond.methodLink "ClauseCourt$Engine" (234 : Nat) ({ cls := "ClauseCourt$Engine", name := "addRoot", desc := "([JII)V" } : Jvm.MethodName)) ∈ lw_all := lw_g (lw_at lw_m7 7 rfl) rfl
theorem q1604 : (Jvm.Cond.privateMethod ({ cls := "ClauseCourt$Engine", name := "addRoot", desc := "([JII)V" } : Jvm.MethodName)) ∈ lw_tbl := lw_at lw_m7 8 rfl
theorem q1605 : (Jvm.Cond.instanceMethod ({ cls := "ClauseCourt$Engine", name := "addRoot", desc := "([JII)V" } : Jvm.MethodName)) ∈ lw_all := lw_g (lw_at lw_m7 9 rfl) rfl
theorem q1606 : (Jvm.Cond.code ({ cls := "ClauseCourt$Engine", name := "addRoot", desc := "([JII)V" } : Jvm.MethodName) prog_5_method_12_code (5 : Nat) (Option.none : Option Jvm.ClassFile.FieldType)) ∈ lw_all := lw_g (lw_at lw_m7 10 rfl) rfl
theorem q1607 : (Jvm.Cond.methodLink "ClauseCourt$Engine" (344 : Nat) ({ cls := "ClauseCourt$Engine", name := "keepTruth", desc := "()V" } : Jvm.MethodName)) ∈ lw_all := lw_g (lw_at lw_m7 11 rfl) rfl
theorem q1608 : (Jvm.Cond.privateMethod ({ cls := "ClauseCourt$Engine", name := "keepTruth", desc := "()V" } : Jvm.MethodName)) ∈ lw_tbl := lw_at lw_m7 12 rfl
theorem q1609 : (Jvm.Cond.instanceMethod ({ cls := "ClauseCourt$Engine", name := "keepTruth", desc := "()V" } : Jvm.MethodName)) ∈ lw_all := lw_g (lw_at lw_m7 13 rfl) rfl
theorem q1610 : (Jvm.Cond.code ({ cls := "ClauseCourt$Engine", name := "keepTruth", desc := "()V" } : Jvm.MethodName) prog_5_method_39_code (2 : Nat) (Option.none : Option Jvm.ClassFile.FieldType)) ∈ lw_all := lw_g (lw_at lw_m7 14 rfl) rfl
theorem q1611 : (Jvm.Cond.methodLink "ClauseCourt$Engine" (312 : Nat) ({ cls := "ClauseCourt$Engine", name := "back", desc := "(I)V" } : Jvm.MethodName)) ∈ lw_all := lw_g (lw_at lw_m7 15 rfl) rfl
theorem q1612 : (Jvm.Cond.instanceMethod ({ cls := "ClauseCourt$Engine", name := "back", desc := "(I)V" } : Jvm.MethodName)) ∈ lw_all := lw_g (lw_at lw_m7 16 rfl) rfl
theorem q1613 : (Jvm.Cond.selects "ClauseCourt$Engine" ({ cls := "ClauseCourt$Engine", name := "back", desc := "(I)V" } : Jvm.MethodName) ({ cls := "ClauseCourt$Engine", name := "back", desc := "(I)V" } : Jvm.MethodName)) ∈ lw_all := lw_g (lw_at lw_m7 17 rfl) rfl
theorem q1614 : (Jvm.Cond.code ({ cls := "ClauseCourt$Engine", name := "back", desc := "(I)V" } : Jvm.MethodName) prog_5_method_15_code (6 : Nat) (Option.none : Option Jvm.ClassFile.FieldType)) ∈ lw_all := lw_g (lw_at lw_m7 18 rfl) rfl
theorem q1615 : (Jvm.Cond.methodLink "ClauseCourt$Engine" (241 : Nat) ({ cls := "java/lang/Math", name := "min", desc := "(II)I" } : Jvm.MethodName)) ∈ lw_all := lw_g (lw_at lw_m7 19 rfl) rfl
theorem q1616 : (Jvm.Cond.methodLink "ClauseCourt$Engine" (347 : Nat) ({ cls := "ClauseCourt$Engine", name := "noAtAll", desc := "(I)I" } : Jvm.MethodName)) ∈ lw_all := lw_g (lw_at lw_m7 20 rfl) rfl
theorem q1617 : (Jvm.Cond.privateMethod ({ cls := "ClauseCourt$Engine", name := "noAtAll", desc := "(I)I" } : Jvm.MethodName)) ∈ lw_tbl := lw_at lw_m7 21 rfl
theorem q1618 : (Jvm.Cond.instanceMethod ({ cls := "ClauseCourt$Engine", name := "noAtAll", desc := "(I)I" } : Jvm.MethodName)) ∈ lw_all := lw_g (lw_at lw_m7 22 rfl) rfl
theorem q1619 : (Jvm.Cond.code ({ cls := "ClauseCourt$Engine", name := "noAtAll", desc := "(I)I" } : Jvm.MethodName) prog_5_method_33_code (3 : Nat) (Option.some Jvm.ClassFile.FieldType.int)) ∈ lw_all := lw_g (lw_at lw_m7 23 rfl) rfl
theorem q1620 : (Jvm.Cond.methodLink "ClauseCourt$Engine" (281 : Nat) ({ cls := "ClauseCourt$Engine", name := "beginSet", desc := "()V" } : Jvm.MethodName)) ∈ lw_all := lw_g (lw_at lw_m7 24 rfl) rfl
theorem q1621 : (Jvm.Cond.privateMethod ({ cls := "ClauseCourt$Engine", name := "beginSet", desc := "()V" } : Jvm.MethodName)) ∈ lw_tbl := lw_at lw_m7 25 rfl
theorem q1622 : (Jvm.Cond.instanceMethod ({ cls := "ClauseCourt$Engine", name := "beginSet", desc := "()V" } : Jvm.MethodName)) ∈ lw_all := lw_g (lw_at lw_m7 26 rfl) rfl
theorem q1623 : (Jvm.Cond.code ({ cls := "ClauseCourt$Engine", name := "beginSet", desc := "()V" } : Jvm.MethodName) prog_5_method_22_code (2 : Nat) (Option.none : Option Jvm.ClassFile.FieldType)) ∈ lw_all := lw_g (lw_at lw_m7 27 rfl) rfl
theorem q1624 : (Jvm.Cond.methodLink "ClauseCourt$Engine" (284 : Nat) ({ cls := "ClauseCourt$Engine", name := "gather", desc := "(III)I" } : Jvm.MethodName)) ∈ lw_all := lw_g (lw_at lw_m7 28 rfl) rfl
theorem q1625 : (Jvm.Cond.privateMethod ({ cls := "ClauseCourt$Engine", name := "gather", desc := "(III)I" } : Jvm.MethodName)) ∈ lw_tbl := lw_at lw_m7 29 rfl
theorem q1626 : (Jvm.Cond.instanceMethod ({ cls := "ClauseCourt$Engine", name := "gather", desc := "(III)I" } : Jvm.MethodName)) ∈ lw_all := lw_g (lw_at lw_m7 30 rfl) rfl
theorem q1627 : (Jvm.Cond.code ({ cls := "ClauseCourt$Engine", name := "gather", desc := "(III)I" } : Jvm.MethodName) prog_5_method_21_code (7 : Nat) (Option.some Jvm.ClassFile.FieldType.int)) ∈ lw_all := lw_g (lw_at lw_m7 31 rfl) rfl
theorem q1628 : (Jvm.Cond.methodLink "ClauseCourt$Engine" (335 : Nat) ({ cls := "ClauseCourt$Engine", name := "no", desc := "()I" } : Jvm.MethodName)) ∈ lw_all := lw_g (lw_at lw_m7 32 rfl) rfl
theorem q1629 : (Jvm.Cond.privateMethod ({ cls := "ClauseCourt$Engine", name := "no", desc := "()I" } : Jvm.MethodName)) ∈ lw_tbl := lw_at lw_m7 33 rfl
theorem q1630 : (Jvm.Cond.instanceMethod ({ cls := "ClauseCourt$Engine", name := "no", desc := "()I" } : Jvm.MethodName)) ∈ lw_all := lw_g (lw_at lw_m7 34 rfl) rfl
theorem q1631 : (Jvm.Cond.code ({ cls := "ClauseCourt$Engine", name := "no", desc := "()I" } : Jvm.MethodName) prog_5_method_32_code (2 : Nat) (Option.some Jvm.ClassFile.FieldType.int)) ∈ lw_all := lw_g (lw_at lw_m7 35 rfl) rfl
theorem q1632 : (Jvm.Cond.methodLink "ClauseCourt$Engine" (306 : Nat) ({ cls := "ClauseCourt$Engine", name := "hasRoom", desc := "(I)Z" } : Jvm.MethodName)) ∈ lw_all := lw_g (lw_at lw_m7 36 rfl) rfl
theorem q1633 : (Jvm.Cond.privateMethod ({ cls := "ClauseCourt$Engine", name := "hasRoom", desc := "(I)Z" } : Jvm.MethodName)) ∈ lw_tbl := lw_at lw_m7 37 rfl
theorem q1634 : (Jvm.Cond.instanceMethod ({ cls := "ClauseCourt$Engine", name := "hasRoom", desc := "(I)Z" } : Jvm.MethodName)) ∈ lw_all := lw_g (lw_at lw_m7 38 rfl) rfl
theorem q1635 : (Jvm.Cond.code ({ cls := "ClauseCourt$Engine", name := "hasRoom", desc := "(I)Z" } : Jvm.MethodName) prog_5_method_25_code (2 : Nat) (Option.some Jvm.ClassFile.FieldType.boolean)) ∈ lw_all := lw_g (lw_at lw_m7 39 rfl) rfl
theorem q1636 : (Jvm.Cond.methodLink "ClauseCourt$Engine" (324 : Nat) ({ cls := "ClauseCourt$Engine", name := "keep", desc := "(Z)V" } : Jvm.MethodName)) ∈ lw_all := lw_g (lw_at lw_m7 40 rfl) rfl
theorem q1637 : (Jvm.Cond.privateMethod ({ cls := "ClauseCourt$Engine", name := "keep", desc := "(Z)V" } : Jvm.MethodName)) ∈ lw_tbl := lw_at lw_m7 41 rfl
theorem q1638 : (Jvm.Cond.instanceMethod ({ cls := "ClauseCourt$Engine", name := "keep", desc := "(Z)V" } : Jvm.MethodName)) ∈ lw_all := lw_g (lw_at lw_m7 42 rfl) rfl
theorem q1639 : (Jvm.Cond.code ({ cls := "ClauseCourt$Engine", name := "keep", desc := "(Z)V" } : Jvm.MethodName) prog_5_method_26_code (4 : Nat) (Option.none : Option Jvm.ClassFile.FieldType)) ∈ lw_all := lw_g (lw_at lw_m7 43 rfl) rfl
theorem q1640 : (Jvm.Cond.methodLink "ClauseCourt$Engine" (328 : Nat) ({ cls := "ClauseCourt$Engine", name := "tell", desc := "(III)V" } : Jvm.MethodName)) ∈ lw_all := lw_g (lw_at lw_m7 44 rfl) rfl
theorem q1641 : (Jvm.Cond.privateMethod ({ cls := "ClauseCourt$Engine", name := "tell", desc := "(III)V" } : Jvm.MethodName)) ∈ lw_tbl := lw_at lw_m7 45 rfl
theorem q1642 : (Jvm.Cond.instanceMethod ({ cls := "ClauseCourt$Engine", name := "tell", desc := "(III)V" } : Jvm.MethodName)) ∈ lw_all := lw_g (lw_at lw_m7 46 rfl) rfl
theorem q1643 : (Jvm.Cond.code ({ cls := "ClauseCourt$Engine", name := "tell", desc := "(III)V" } : Jvm.MethodName) prog_5_method_31_code (4 : Nat) (Option.none : Option Jvm.ClassFile.FieldType)) ∈ lw_all := lw_g (lw_at lw_m7 47 rfl) rfl
theorem q1644 : (Jvm.Cond.methodLink "ClauseCourt$Engine" (332 : Nat) ({ cls := "ClauseCourt$Engine", name := "numberOf", desc := "(I)I" } : Jvm.MethodName)) ∈ lw_all := lw_g (lw_at lw_m7 48 rfl) rfl
theorem q1645 : (Jvm.Cond.privateMethod ({ cls := "ClauseCourt$Engine", name := "numberOf", desc := "(I)I" } : Jvm.MethodName)) ∈ lw_tbl := lw_at lw_m7 49 rfl
theorem q1646 : (Jvm.Cond.instanceMethod ({ cls := "ClauseCourt$Engine", name := "numberOf", desc := "(I)I" } : Jvm.MethodName)) ∈ lw_all := lw_g (lw_at lw_m7 50 rfl) rfl
theorem q1647 : (Jvm.Cond.code ({ cls := "ClauseCourt$Engine", name := "numberOf", desc := "(I)I" } : Jvm.MethodName) prog_5_method_9_code (2 : Nat) (Option.some Jvm.ClassFile.FieldType.int)) ∈ lw_all := lw_g (lw_at lw_m7 51 rfl) rfl
theorem q1648 : (Jvm.Cond.methodLink "ClauseCourt$Engine" (350 : Nat) ({ cls := "ClauseCourt$Engine", name := "learns", desc := "(I)Z" } : Jvm.MethodName)) ∈ lw_all := lw_g (lw_at lw_m7 52 rfl) rfl
theorem q1649 : (Jvm.Cond.privateMethod ({ cls := "ClauseCourt$Engine", name := "learns", desc := "(I)Z" } : Jvm.MethodName)) ∈ lw_tbl := lw_at lw_m7 53 rfl
theorem q1650 : (Jvm.Cond.instanceMethod ({ cls := "ClauseCourt$Engine", name := "learns", desc := "(I)Z" } : Jvm.MethodName)) ∈ lw_all := lw_g (lw_at lw_m7 54 rfl) rfl
theorem q1651 : (Jvm.Cond.code ({ cls := "ClauseCourt$Engine", name := "learns", desc := "(I)Z" } : Jvm.MethodName) prog_5_method_30_code (5 : Nat) (Option.some Jvm.ClassFile.FieldType.boolean)) ∈ lw_all := lw_g (lw_at lw_m7 55 rfl) rfl
theorem q1652 : (Jvm.Cond.methodLink "ClauseCourt$Engine" (303 : Nat) ({ cls := "ClauseCourt$Engine", name := "learn", desc := "(I)V" } : Jvm.MethodName)) ∈ lw_all := lw_g (lw_at lw_m7 56 rfl) rfl
theorem q1653 : (Jvm.Cond.privateMethod ({ cls := "ClauseCourt$Engine", name := "learn", desc := "(I)V" } : Jvm.MethodName)) ∈ lw_tbl := lw_at lw_m7 57 rfl
theorem q1654 : (Jvm.Cond.instanceMethod ({ cls := "ClauseCourt$Engine", name := "learn", desc := "(I)V" } : Jvm.MethodName)) ∈ lw_all := lw_g (lw_at lw_m7 58 rfl) rfl
theorem q1655 : (Jvm.Cond.code ({ cls := "ClauseCourt$Engine", name := "learn", desc := "(I)V" } : Jvm.MethodName) prog_5_method_23_code (6 : Nat) (Option.none : Option Jvm.ClassFile.FieldType)) ∈ lw_all := lw_g (lw_at lw_m7 59 rfl) rfl
theorem q1656 : (Jvm.Cond.methodLink "ClauseCourt$Engine" (309 : Nat) ({ cls := "ClauseCourt$Engine", name := "heavier", desc := "()V" } : Jvm.MethodName)) ∈ lw_all := lw_g (lw_at lw_m7 60 rfl) rfl
theorem q1657 : (Jvm.Cond.privateMethod ({ cls := "ClauseCourt$Engine", name := "heavier", desc := "()V" } : Jvm.MethodName)) ∈ lw_tbl := lw_at lw_m7 61 rfl
theorem q1658 : (Jvm.Cond.instanceMethod ({ cls := "ClauseCourt$Engine", name := "heavier", desc := "()V" } : Jvm.MethodName)) ∈ lw_all := lw_g (lw_at lw_m7 62 rfl) rfl
theorem q1659 : (Jvm.Cond.code ({ cls := "ClauseCourt$Engine", name := "heavier", desc := "()V" } : Jvm.MethodName) prog_5_method_24_code (3 : Nat) (Option.none : Option Jvm.ClassFile.FieldType)) ∈ lw_all := lw_g (lw_at lw_m7 63 rfl) rfl
theorem q1660 : (Jvm.Cond.constantLong "ClauseCourt$Engine" (288 : Nat) (1000000000000 : Int64)) ∈ lw_all := lw_g (lw_at lw_m7 64 rfl) rfl
theorem q1661 : (Jvm.Cond.constantLong "ClauseCourt$Engine" (290 : Nat) (8 : Int64)) ∈ lw_all := lw_g (lw_at lw_m7 65 rfl) rfl
theorem q1662 : (Jvm.Cond.constantLong "ClauseCourt$Engine" (292 : Nat) (1048576 : Int64)) ∈ lw_all := lw_g (lw_at lw_m7 66 rfl) rfl
theorem q1663 : (Jvm.Cond.methodLink "ClauseCourt$Engine" (294 : Nat) ({ cls := "java/lang/Math", name := "max", desc := "(JJ)J" } : Jvm.MethodName)) ∈ lw_all := lw_g (lw_at lw_m7 67 rfl) rfl
theorem q1666 : (Jvm.Cond.methodLink "ClauseCourt$Engine" (237 : Nat) ({ cls := "java/lang/Math", name := "max", desc := "(II)I" } : Jvm.MethodName)) ∈ lw_all := lw_g (lw_at lw_m7 70 rfl) rfl
theorem q1669 : (Jvm.Cond.methodLink "ClauseCourt$Engine" (318 : Nat) ({ cls := "ClauseCourt$Engine", name := "turnNumber", desc := "()I" } : Jvm.MethodName)) ∈ lw_all := lw_g (lw_at lw_m7 73 rfl) rfl
theorem q1670 : (Jvm.Cond.privateMethod ({ cls := "ClauseCourt$Engine", name := "turnNumber", desc := "()I" } : Jvm.MethodName)) ∈ lw_tbl := lw_at lw_m7 74 rfl
theorem q1671 : (Jvm.Cond.instanceMethod ({ cls := "ClauseCourt$Engine", name := "turnNumber", desc := "()I" } : Jvm.MethodName)) ∈ lw_all := lw_g (lw_at lw_m7 75 rfl) rfl
theorem q1672 : (Jvm.Cond.code ({ cls := "ClauseCourt$Engine", name := "turnNumber", desc := "()I" } : Jvm.MethodName) prog_5_method_27_code (3 : Nat) (Option.some Jvm.ClassFile.FieldType.int)) ∈ lw_all := lw_g (lw_at lw_m7 76 rfl) rfl
theorem q1673 : (Jvm.Cond.methodLink "ClauseCourt$Engine" (321 : Nat) ({ cls := "ClauseCourt$Engine", name := "forgets", desc := "()V" } : Jvm.MethodName)) ∈ lw_all := lw_g (lw_at lw_m7 77 rfl) rfl
theorem q1674 : (Jvm.Cond.privateMethod ({ cls := "ClauseCourt$Engine", name := "forgets", desc := "()V" } : Jvm.MethodName)) ∈ lw_tbl := lw_at lw_m7 78 rfl
theorem q1675 : (Jvm.Cond.instanceMethod ({ cls := "ClauseCourt$Engine", name := "forgets", desc := "()V" } : Jvm.MethodName)) ∈ lw_all := lw_g (lw_at lw_m7 79 rfl) rfl
theorem q1676 : (Jvm.Cond.code ({ cls := "ClauseCourt$Engine", name := "forgets", desc := "()V" } : Jvm.MethodName) prog_5_method_29_code (5 : Nat) (Option.none : Option Jvm.ClassFile.FieldType)) ∈ lw_all := lw_g (lw_at lw_m7 80 rfl) rfl
theorem q1677 : (Jvm.Cond.methodLink "ClauseCourt$Engine" (300 : Nat) ({ cls := "ClauseCourt$Engine", name := "isReason", desc := "(I)Z" } : Jvm.MethodName)) ∈ lw_all := lw_g (lw_at lw_m7 81 rfl) rfl
theorem q1678 : (Jvm.Cond.privateMethod ({ cls := "ClauseCourt$Engine", name := "isReason", desc := "(I)Z" } : Jvm.MethodName)) ∈ lw_tbl := lw_at lw_m7 82 rfl
theorem q1679 : (Jvm.Cond.instanceMethod ({ cls := "ClauseCourt$Engine", name := "isReason", desc := "(I)Z" } : Jvm.MethodName)) ∈ lw_all := lw_g (lw_at lw_m7 83 rfl) rfl
theorem q1680 : (Jvm.Cond.code ({ cls := "ClauseCourt$Engine", name := "isReason", desc := "(I)Z" } : Jvm.MethodName) prog_5_method_28_code (5 : Nat) (Option.some Jvm.ClassFile.FieldType.boolean)) ∈ lw_all := lw_g (lw_at lw_m7 84 rfl) rfl
theorem q1681 : (Jvm.Cond.methodLink "ClauseCourt$Engine" (353 : Nat) ({ cls := "ClauseCourt$Engine", name := "firstAssumed", desc := "()I" } : Jvm.MethodName)) ∈ lw_all := lw_g (lw_at lw_m7 85 rfl) rfl
theorem q1682 : (Jvm.Cond.privateMethod ({ cls := "ClauseCourt$Engine", name := "firstAssumed", desc := "()I" } : Jvm.MethodName)) ∈ lw_tbl := lw_at lw_m7 86 rfl
theorem q1683 : (Jvm.Cond.instanceMethod ({ cls := "ClauseCourt$Engine", name := "firstAssumed", desc := "()I" } : Jvm.MethodName)) ∈ lw_all := lw_g (lw_at lw_m7 87 rfl) rfl
theorem q1684 : (Jvm.Cond.code ({ cls := "ClauseCourt$Engine", name := "firstAssumed", desc := "()I" } : Jvm.MethodName) prog_5_method_36_code (2 : Nat) (Option.some Jvm.ClassFile.FieldType.int)) ∈ lw_all := lw_g (lw_at lw_m7 88 rfl) rfl
theorem q1685 : (Jvm.Cond.methodLink "ClauseCourt$Engine" (356 : Nat) ({ cls := "ClauseCourt$Engine", name := "noBy", desc := "(I)I" } : Jvm.MethodName)) ∈ lw_all := lw_g (lw_at lw_m7 89 rfl) rfl
theorem q1686 : (Jvm.Cond.privateMethod ({ cls := "ClauseCourt$Engine", name := "noBy", desc := "(I)I" } : Jvm.MethodName)) ∈ lw_tbl := lw_at lw_m7 90 rfl
theorem q1687 : (Jvm.Cond.instanceMethod ({ cls := "ClauseCourt$Engine", name := "noBy", desc := "(I)I" } : Jvm.MethodName)) ∈ lw_all := lw_g (lw_at lw_m7 91 rfl) rfl
theorem q1688 : (Jvm.Cond.code ({ cls := "ClauseCourt$Engine", name := "noBy", desc := "(I)I" } : Jvm.MethodName) prog_5_method_34_code (5 : Nat) (Option.some Jvm.ClassFile.FieldType.int)) ∈ lw_all := lw_g (lw_at lw_m7 92 rfl) rfl
theorem q1689 : (Jvm.Cond.methodLink "ClauseCourt$Engine" (338 : Nat) ({ cls := "ClauseCourt$Engine", name := "marks", desc := "(II)V" } : Jvm.MethodName)) ∈ lw_all := lw_g (lw_at lw_m7 93 rfl) rfl
theorem q1690 : (Jvm.Cond.privateMethod ({ cls := "ClauseCourt$Engine", name := "marks", desc := "(II)V" } : Jvm.MethodName)) ∈ lw_tbl := lw_at lw_m7 94 rfl
theorem q1691 : (Jvm.Cond.instanceMethod ({ cls := "ClauseCourt$Engine", name := "marks", desc := "(II)V" } : Jvm.MethodName)) ∈ lw_all := lw_g (lw_at lw_m7 95 rfl) rfl
theorem q1692 : (Jvm.Cond.code ({ cls := "ClauseCourt$Engine", name := "marks", desc := "(II)V" } : Jvm.MethodName) prog_5_method_35_code (4 : Nat) (Option.none : Option Jvm.ClassFile.FieldType)) ∈ lw_all := lw_g (lw_at lw_m7 96 rfl) rfl
theorem q1693 : (Jvm.Cond.methodLink "ClauseCourt$Engine" (359 : Nat) ({ cls := "ClauseCourt$Engine", name := "heaviest", desc := "()I" } : Jvm.MethodName)) ∈ lw_all := lw_g (lw_at lw_m7 97 rfl) rfl
theorem q1694 : (Jvm.Cond.privateMethod ({ cls := "ClauseCourt$Engine", name := "heaviest", desc := "()I" } : Jvm.MethodName)) ∈ lw_tbl := lw_at lw_m7 98 rfl
theorem q1695 : (Jvm.Cond.instanceMethod ({ cls := "ClauseCourt$Engine", name := "heaviest", desc := "()I" } : Jvm.MethodName)) ∈ lw_all := lw_g (lw_at lw_m7 99 rfl) rfl
theorem q1696 : (Jvm.Cond.code ({ cls := "ClauseCourt$Engine", name := "heaviest", desc := "()I" } : Jvm.MethodName) prog_5_method_37_code (3 : Nat) (Option.some Jvm.ClassFile.FieldType.int)) ∈ lw_all := lw_g (lw_at lw_m7 100 rfl) rfl
theorem q1697 : (Jvm.Cond.methodLink "ClauseCourt$Engine" (362 : Nat) ({ cls := "ClauseCourt$Engine", name := "up", desc := "()V" } : Jvm.MethodName)) ∈ lw_all := lw_g (lw_at lw_m7 101 rfl) rfl
theorem q1698 : (Jvm.Cond.privateMethod ({ cls := "ClauseCourt$Engine", name := "up", desc := "()V" } : Jvm.MethodName)) ∈ lw_tbl := lw_at lw_m7 102 rfl
theorem q1699 : (Jvm.Cond.instanceMethod ({ cls := "ClauseCourt$Engine", name := "up", desc := "()V" } : Jvm.MethodName)) ∈ lw_all := lw_g (lw_at lw_m7 103 rfl) rfl
theorem q1700 : (Jvm.Cond.code ({ cls := "ClauseCourt$Engine", name := "up", desc := "()V" } : Jvm.MethodName) prog_5_method_14_code (1 : Nat) (Option.none : Option Jvm.ClassFile.FieldType)) ∈ lw_all := lw_g (lw_at lw_m7 104 rfl) rfl
theorem in_X1 : ∀ w ∈ wsX10, w ∈ lw_all := lw_in wsX10 [295, 297, 299, 301, 303, 305, 307, 309, 311, 313, 315, 317, 319, 321, 323, 325, 327, 329, 331, 333, 335, 337, 339, 341, 343, 345, 347, 349, 351, 353, 355, 357, 359, 361, 363, 365, 367, 369, 371, 373, 375, 377, 379, 381, 383, 385, 387, 389, 391, 393, 395, 397, 399, 401, 403, 405, 407, 409] (by decide +kernel) (by decide +kernel)
